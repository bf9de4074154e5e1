/-! the model's find and code -/
set_option maxRecDepth 100000
theorem fdQ_hit {h h1 h2 : zH} {s n v : Nat} {c : Option (Nat × Nat × Nat)} (hc : c = some (s, n, v)) (f1 : fr (fun a j => a = 92 ∧ (j = 31 ∨ j = 32) ∨ a = 116) h h1) (e0 : zI h1 92 31 = nI s) (q : zI h2 92 32 = nI n ∧ (∀ k, k < n → zI h2 116 k = nI (bt (byL n v) k)) ∧ fr (fun a j => a = 92 ∧ j = 32 ∨ a = 116) h1 h2) : fdQ h c (1, h2) := by
  subst hc
  refine ⟨(fun e => by cases e), ?_, f1.trans (q.2.2.mono fun a j w => by omega)⟩
  rintro q' e
  cases e
  exact ⟨rfl, (q.2.2.I (by omega)).trans e0, q.1, q.2.1⟩
theorem m_find {h : zH} {p pt : Nat} {g : gP} (hg : mPg h p g) (sm : gSm g) (hp : p < 11) (hpt : pt ≤ 1114111) : zw (fX9_find h 92 (nI p) (nI pt)) (fdQ h (gCd g pt)) := by
  have k0 := sm.1
  have c0 : zI (zsI h 92 31 0) (92 + 1) (nI p).toNatClampNeg = nI (g 0 0) := by rw [nI_clamp (by omega), eI, if_neg (by omega)]; exact hg.c0
  have f0 : fr (fun a j => a = 92 ∧ (j = 31 ∨ j = 32) ∨ a = 116) h (zsI h 92 31 0) := (fr.refl _ h).sI (by omega) _
  have e0 : zI (zsI h 92 31 0) 92 31 = nI 0 := by rw [eIs]; rfl
  unfold fX9_find
  rw [zw_let, zw_ck, c0]
  refine ⟨vin (by omega) (by omega), ?_⟩
  by_cases a1 : g 0 0 = 1
  · rw [if_pos (by rw [a1]; rfl)]
    by_cases b1 : pt < 65536
    · rw [if_neg (by rw [li, nI_leI (by omega) (by omega)]; omega), nI_l (by omega), zw_b1, show (2 : Int32) = nI 2 from rfl]
      refine (m_text (by omega) (by omega)).mono fun h2 q => ?_
      rw [zw_some]
      exact fdQ_hit (by unfold gCd; rw [if_pos a1, if_pos b1]) f0 e0 q
    · obtain ⟨r1, r2⟩ := m_first (by omega) hpt
      have := uHL (by omega) hpt
      rw [if_pos (by rw [li, nI_leI (by omega) (by omega)]; omega), r1, zb1_s, r2, zb1_s, nI_l (by unfold uHi at this; omega), nI_l (by unfold uLo at this; omega), show (16 : Int32) = nI 16 from rfl, l_shl _ (by omega), lN_or, or_add _ (by unfold uLo at this; omega), zw_b1, show (4 : Int32) = nI 4 from rfl]
      refine (m_text (by omega) (by unfold uLo uHi at this; omega)).mono fun h2 q => ?_
      rw [zw_some]
      exact fdQ_hit (by unfold gCd; rw [if_pos a1, if_neg b1]; rfl) f0 e0 q
  rw [if_neg (by rw [li, nI_eq (by omega) (by omega)]; exact a1)]
  by_cases a2 : g 0 0 = 2
  · rw [if_pos (by rw [a2]; rfl)]
    by_cases b1 : pt < 65536
    · have := tu_lt b1
      rw [if_neg (by rw [li, nI_leI (by omega) (by omega)]; omega), m_turned b1, zb1_s, nI_l (by omega), zw_b1, show (2 : Int32) = nI 2 from rfl]
      refine (m_text (by omega) (by omega)).mono fun h2 q => ?_
      rw [zw_some]
      exact fdQ_hit (by unfold gCd; rw [if_neg a1, if_pos a2, if_pos b1]) f0 e0 q
    · obtain ⟨r1, r2⟩ := m_first (by omega) hpt
      have u := uHL (by omega) hpt
      have u1 := tu_lt u.1
      have u2 := tu_lt u.2
      have r1' : fX9_first (nI pt) = some (nI (uHi pt)) := r1
      have r2' : fX9_second (nI pt) = some (nI (uLo pt)) := r2
      rw [if_pos (by rw [li, nI_leI (by omega) (by omega)]; omega), r1', zb1_s, m_turned u.1, zb1_s, r2', zb1_s, m_turned u.2, zb1_s, nI_l (by omega), nI_l (by omega), show (16 : Int32) = nI 16 from rfl, l_shl _ (by omega), lN_or, or_add _ (by omega), zw_b1, show (4 : Int32) = nI 4 from rfl]
      refine (m_text (by omega) (by omega)).mono fun h2 q => ?_
      rw [zw_some]
      exact fdQ_hit (by unfold gCd; rw [if_neg a1, if_pos a2, if_neg b1]) f0 e0 q
  rw [if_neg (by rw [li, nI_eq (by omega) (by omega)]; exact a2)]
  by_cases a3 : g 0 0 = 3
  · rw [if_pos (by rw [a3]; rfl), zw_b1]
    refine (m_few hpt).mono fun h2 q => ?_
    rw [zw_some]
    exact fdQ_hit (by unfold gCd; rw [if_neg a1, if_neg a2, if_pos a3]) f0 e0 q
  rw [if_neg (by rw [li, nI_eq (by omega) (by omega)]; exact a3), zw_lx]
  have eC : gCd g pt = if gPr g pt < g 2 0 then some (g 4 (gPr g pt), g 5 (gPr g pt), g 6 (gPr g pt)) else none := by unfold gCd; rw [if_neg a1, if_neg a2, if_neg a3]
  have hg1 : mPg (zsI h 92 31 0) p g := hg.fr f0 (fun a j q1 q2 => by omega)
  have c2 := hg1.c2
  obtain ⟨m0, m1, m2, m3, me, ms⟩ := sm
  rw [show (100 : Int32) = nI 100 from rfl, pk_mul]
  generalize hH : zsI h 92 31 0 = H at *
  refine zw_ff (100 * p) (g 2 0) (fun k => g 7 k == pt && g 8 k == 1) ?_ ?_ ?_
  · simp (disch := omega) only [fX9_find_L131, zw_b1, zw_b2, zw_ck, zw_let, zw_ite, zw_some, li, pk_mul, nI_add, nI_clamp, vin, c2, nI_leI, Nat.reduceAdd, true_and, Nat.le_refl, if_true]
    refine ⟨_, rfl, fun e => ?_⟩
    refine ⟨fun _ => rfl, fun q hq => ?_, f0⟩
    rw [eC, if_neg (by unfold gPr; omega)] at hq
    cases hq
  · intro k hk hh
    have x0 := hg1.e0 hk
    have x1 := hg1.e1 hk
    have x2 := hg1.e2 hk
    have x3 := hg1.e3 hk
    have x4 := hg1.e4 hk
    have b0 := (me k hk).lt
    simp only [Bool.and_eq_true, beq_iff_eq] at hh
    simp (disch := omega) only [fX9_find_L131, zw_b1, zw_b2, zw_ck, zw_let, zw_ite, zw_some, li, pk_mul, nI_add, nI_clamp, vin, c2, nI_leI, Nat.reduceAdd, true_and, x3, x4, nI_eq, hh.1, hh.2, if_true]
    rw [if_neg (by omega)]
    refine ⟨_, rfl, fun e => ?_⟩
    dsimp only
    rw [nI_clamp (by omega), x0]
    refine ⟨vin (by omega) (by omega), vin (by omega) (by omega), vin (by omega) (by omega), ?_⟩
    rw [show zI (zsI H 92 31 (nI (g 4 k))) 98 (100 * p + k) = nI (g 5 k) from by rw [eI, if_neg (by omega)]; exact x1, show zI (zsI H 92 31 (nI (g 4 k))) 99 (100 * p + k) = nI (g 6 k) from by rw [eI, if_neg (by omega)]; exact x2, nI_l (by omega)]
    refine (m_text (by omega) (by omega)).mono fun h2 q => ?_
    have eP : gPr g pt = k := e
    exact fdQ_hit (by rw [eC, eP, if_pos hk]) (f0.sI (by omega) _) (by rw [eIs]) q
  · intro k hk hh
    have x3 := hg1.e3 hk
    have x4 := hg1.e4 hk
    have b0 := (me k hk).lt
    apply zw_eq
    simp only [Bool.and_eq_false_iff, beq_eq_false_iff_ne] at hh
    simp (disch := omega) only [fX9_find_L131, zw_b1, zw_b2, zw_ck, zw_let, zw_ite, zw_some, li, pk_mul, nI_add, nI_clamp, vin, c2, nI_leI, Nat.reduceAdd, true_and, x3, x4, nI_eq]
    rw [if_neg (by omega)]
    split
    · rw [if_pos (by omega)]; trivial
    · trivial
/-- the number of a text's bytes -/
theorem byL_num {n v : Nat} : ∀ i, i ≤ n → (List.range i).foldl (fun a k => a * 256 + bt (byL n v) k) 0 = v % 2 ^ (8 * n) / 2 ^ (8 * (n - i))
  | 0, _ => by
    show 0 = _
    rw [Nat.sub_zero]
    exact (Nat.div_eq_of_lt (Nat.mod_lt _ (Nat.two_pow_pos _))).symm
  | i + 1, hi => by
    rw [List.range_succ, List.foldl_append, byL_num i (by omega)]
    show _ * 256 + bt (byL n v) i = _
    rw [byL_at (by omega)]
    obtain ⟨m, rfl⟩ : ∃ m, n = i + 1 + m := ⟨n - i - 1, by omega⟩
    rw [show i + 1 + m - i = m + 1 from by omega, show i + 1 + m - 1 - i = m from by omega, show i + 1 + m - (i + 1) = m from by omega]
    have e1 : v / 2 ^ (8 * m) % 256 = v % 2 ^ (8 * (i + 1 + m)) / 2 ^ (8 * m) % 256 := by
      rw [show 8 * (i + 1 + m) = 8 * m + 8 * (i + 1) from by omega, Nat.pow_add, Nat.mod_mul_right_div_self, show 8 * (i + 1) = 8 + 8 * i from by omega, Nat.pow_add, Nat.mod_mul_right_mod]
    rw [e1]
    generalize v % 2 ^ (8 * (i + 1 + m)) = w
    rw [show 8 * (m + 1) = 8 * m + 8 from by omega, Nat.pow_add, ← Nat.div_div_eq_div_mul]
    generalize w / 2 ^ (8 * m) = y
    show y / 256 * 256 + y % 256 = y
    omega
/-- a long answer -/
def mQL (h : zH) (s : Int64 × gZ) (r : Int64 × zH) : Prop := r.1 = s.1 ∧ MR r.2 s.2 ∧ fr wAll h r.2
noncomputable def sp_code (z : gZ) (x y : Int32) : Int64 × gZ := match vI x z.pg.1 with
  | none => ((-1 : Int32).toInt64, qF z (z.fi + 1))
  | some p => if z.pg.2 p 1 0 = 0 then ((-5 : Int32).toInt64, qF z (z.fi + 1)) else match vPt y with
    | none => ((-1 : Int32).toInt64, qF z (z.fi + 1))
    | some pt => match gCd (z.pg.2 p) pt with
      | none => ((-2 : Int32).toInt64, qF z (z.fi + 1))
      | some q => (lN (q.2.1 * 2 ^ 32 + q.2.2), z)
theorem m_tellL {h h1 : zH} {z : gZ} {v : Int32} (m : MR h1 z) (f : fr wAll h h1) (hv : v < 0) : zw (zb2 (fX9_tell h1 92 v) (fun a b => some (a.toInt64, b))) (mQL h (v.toInt64, qF z (z.fi + 1))) := by
  rw [zw_b2]
  refine (m_tell m f hv).mono fun y hy => ?_
  rw [zw_some]
  exact ⟨congrArg Int32.toInt64 hy.1, hy.2⟩
theorem m_code {h : zH} {z : gZ} {x y : Int32} (m : MR h z) (w : pgWf z.pg) : zw (fX9_code h 92 x y) (mQL h (sp_code z x y)) := by
  have hn := w.1
  have c0 := m.pg.1
  unfold fX9_code sp_code
  rcases vI_cases x z.pg.1 (by omega) with ⟨e, hx⟩ | ⟨p, hp, rfl, e⟩
  · rw [e, m_isPage0 c0 (by omega) hx, zb1_s, if_pos rfl]
    exact m_tellL m (fr.refl _ _) neg1
  rw [e, m_isPage1 c0 (by omega) hp, zb1_s, if_neg (by decide), zw_ck, nI_clamp (by omega), show zI h (92 + 2) p = nI (z.pg.2 p 1 0) from (m.pg.2 p hp).c1]
  have sm := w.2 p hp
  have s1 := sm.2.1
  have mp := m.pg.2 p hp
  refine ⟨vin (by omega) (by omega), ?_⟩
  dsimp only
  by_cases h1 : z.pg.2 p 1 0 = 0
  · rw [if_pos (by rw [h1]; rfl), if_pos h1]
    exact m_tellL m (fr.refl _ _) neg5
  rw [if_neg (by rw [n_0 (by omega)]; exact h1), if_neg h1]
  rcases pt_cases y with ⟨e, e1, -⟩ | ⟨pt, hpt, rfl, e, e1, -⟩
  · rw [e, e1, zb1_s, if_pos rfl]
    exact m_tellL m (fr.refl _ _) neg1
  rw [e, e1, zb1_s, if_neg (by decide), zw_b2]
  dsimp only
  refine (m_find mp sm (by omega) hpt.1).mono ?_
  rintro ⟨v, h2⟩ ⟨q1, q2, f⟩
  dsimp only at q1 q2 f ⊢
  have fs : fr wSc h h2 := f.mono fun a j hw => by unfold wSc; omega
  generalize hG : z.pg.2 p = G at *
  cases hc : gCd G pt with
  | none =>
    rw [q1 hc, if_pos rfl]
    exact m_tellL (m.scr fs) (fs.mono wSc_all) neg2
  | some q =>
    obtain ⟨rfl, t0, t1, t2⟩ := q2 q hc
    have wf := gCd_wf sm hpt.1 hc
    rw [if_neg (by decide)]
    dsimp only
    refine zw_for (fun i s => s = (lN ((List.range i).foldl (fun a k => a * 256 + bt (byL q.2.1 q.2.2) k) 0), nI i)) q.2.1 ?_ rfl
    rintro i s hi rfl
    dsimp only
    rw [byL_num i hi, Nat.mod_eq_of_lt wf.2.2.2.1]
    unfold fX9_code_L68
    rw [t1]
    have bd : q.2.2 / 2 ^ (8 * (q.2.1 - i)) ≤ q.2.2 := Nat.div_le_self _ _
    by_cases e : i = q.2.1
    · rw [if_pos (by rw [e]; exact Int32.le_refl _), zw_some, e, Nat.sub_self, Nat.mul_zero, Nat.pow_zero, Nat.div_one, nI_l (by omega), show (32 : Int32) = nI 32 from rfl, l_shl _ (by omega), lN_or, or_add' _ wf.2.2.2.2]
      exact ⟨rfl, m.scr fs, fs.mono wSc_all⟩
    · rw [if_neg (by rw [nI_leI (by omega) (by omega)]; omega), zw_ck, zw_some, nI_clamp (by omega), t2 i (by omega), byL_at (by omega), nI_l (by omega), show (8 : Int32) = nI 8 from rfl, l_shl _ (by omega), lN_or, or_add _ (by omega), nI_1]
      refine ⟨vin (by omega) (by omega), by omega, ?_⟩
      rw [List.range_succ, List.foldl_append, byL_num i hi, Nat.mod_eq_of_lt wf.2.2.2.1]
      show _ = (lN (_ * 256 + bt (byL q.2.1 q.2.2) i), _)
      rw [byL_at (by omega)]
