/-! coverage: the model -/
set_option maxRecDepth 100000
def ptB (v : Nat) : Bool := decide (v ≤ 1114111 ∧ ¬ (55296 ≤ v ∧ v ≤ 57343))
def gCvB (g : gP) (a i : Nat) : Bool := ptB (a + i) && (gCd g (a + i)).isSome
/-- how many points from a on have a text -/
def gCv (g : gP) (a n : Nat) : Nat := cn (gCvB g a) n
noncomputable def sp_coverage (z : gZ) (X Y T : Int32) : Int32 × gZ := sp_cl z X (fun p => match vR Y 0 1114111, vR T 0 1114111 with
  | some a, some b => if b < a ∨ 65536 ≤ b - a then qT z (-1) else (nI (gCv (z.pg.2 p) a (b - a + 1)), z)
  | _, _ => qT z (-1))
theorem pt_no {k : Nat} (hk : k < 2 ^ 31) (h : ¬ isPt k) : fX9_isPoint (nI k) = some 0 := by
  rcases pt_cases (nI k) with ⟨-, e, -⟩ | ⟨j, hj, e, -⟩
  · exact e
  · have : j < 2 ^ 31 := by have := hj.1; omega
    rw [nI_eq hk this] at e
    rw [e] at h
    exact absurd hj h
theorem m_coverage {h : zH} {z : gZ} {X Y T : Int32} (m : MR h z) (w : pgWf z.pg) : zw (fX9_coverage h 92 X Y T) (mQ h (sp_coverage z X Y T)) := by
  unfold fX9_coverage sp_coverage
  refine m_cl m w _ _ ?_
  rintro p hp rfl k1
  have hn := w.1
  have sm := w.2 p hp
  have mp := m.pg.2 p hp
  rcases vR_cases Y 0 1114111 (by omega) (by omega) with ⟨t1, t9, -⟩ | ⟨a, -, ha, rfl, t1, t9, -⟩
  · rw [t1, show fX9_in Y 0 1114111 = some 0 from t9, zb1_s, if_pos rfl]
    exact m_tell' m (fr.refl _ _) neg1
  rw [t1, show fX9_in (nI a) 0 1114111 = some 1 from t9, zb1_s, if_neg (by decide)]
  rcases vR_cases T 0 1114111 (by omega) (by omega) with ⟨t2, s9, -⟩ | ⟨b, -, hb, rfl, t2, s9, -⟩
  · rw [t2, show fX9_in T 0 1114111 = some 0 from s9, zb1_s, if_pos rfl]
    exact m_tell' m (fr.refl _ _) neg1
  rw [t2, show fX9_in (nI b) 0 1114111 = some 1 from s9, zb1_s, if_neg (by decide)]
  dsimp only
  by_cases c1 : b < a
  · rw [if_pos (by rw [nI_ltI (by omega) (by omega)]; exact c1), if_pos (Or.inl c1)]
    exact m_tell' m (fr.refl _ _) neg1
  rw [if_neg (by rw [nI_ltI (by omega) (by omega)]; exact c1), pk_sub (by omega)]
  by_cases c2 : b - a < 65536
  case neg =>
    rw [if_neg (by rw [li, nI_ltI (by omega) (by omega)]; exact c2), if_pos (by omega)]
    exact m_tell' m (fr.refl _ _) neg1
  rw [if_pos (by rw [li, nI_ltI (by omega) (by omega)]; exact c2), if_neg (by omega)]
  generalize hG : z.pg.2 p = G at *
  refine zw_for (fun i s => s.2.1 = nI (gCv G a i) ∧ s.2.2 = nI (a + i) ∧ fr wSc h s.1) (b - a + 1) ?_ ⟨rfl, rfl, fr.refl _ _⟩
  rintro i ⟨h1, x4, x5⟩ hi ⟨e4, e5, f⟩
  dsimp only at e4 e5 f ⊢
  subst e4 e5
  have hcn := cn_le (gCvB G a) i
  have hcn2 : gCv G a i ≤ i := hcn
  have step : ∀ v : Bool, gCvB G a i = v → gCv G a (i + 1) = gCv G a i + if v then 1 else 0 := fun v e => by
    show cn (gCvB G a) i + (if gCvB G a i then 1 else 0) = _
    rw [e]
    rfl
  unfold fX9_coverage_L75
  by_cases e : b < a + i
  · rw [if_pos (by rw [nI_ltI (by omega) (by omega)]; exact e), zw_some]
    have : i = b - a + 1 := by omega
    subst this
    exact ⟨rfl, m.scr f, f.mono wSc_all⟩
  rw [if_neg (by rw [nI_ltI (by omega) (by omega)]; exact e)]
  by_cases hp2 : isPt (a + i)
  case neg =>
    have eb : gCvB G a i = false := by
      unfold gCvB ptB
      rw [decide_eq_false (p := a + i ≤ 1114111 ∧ ¬ (55296 ≤ a + i ∧ a + i ≤ 57343)) hp2]
      rfl
    rw [pt_no (by omega) hp2, zb1_s, if_pos rfl, zw_some, step _ eb]
    exact ⟨by omega, by rw [show (0 : Int32) = nI 0 from rfl, nI_add]; rfl, by rw [nI_1, Nat.add_assoc], f⟩
  rw [pt_1 hp2, zb1_s, if_neg (by decide), zw_b2]
  refine (m_find (mp.fr f (fun a j q1 q2 => by unfold wSc; omega)) sm (by omega) hp2.1).mono ?_
  rintro ⟨v, h2⟩ ⟨q1, q2, f2⟩
  dsimp only at q1 q2 f2 ⊢
  have fs : fr wSc h h2 := f.trans (f2.mono fun a j hw => by unfold wSc; omega)
  have ep : ptB (a + i) = true := by unfold ptB; exact decide_eq_true hp2
  cases hc : gCd G (a + i) with
  | none =>
    have eb : gCvB G a i = false := by unfold gCvB; rw [hc, ep]; rfl
    rw [q1 hc, if_pos rfl, zw_some, step _ eb]
    exact ⟨by omega, by rw [show (0 : Int32) = nI 0 from rfl, nI_add]; rfl, by rw [nI_1, Nat.add_assoc], fs⟩
  | some q =>
    have eb : gCvB G a i = true := by unfold gCvB; rw [hc, ep]; rfl
    rw [(q2 q hc).1, if_neg (by decide), zw_some, step _ eb]
    exact ⟨by omega, by rw [nI_1]; rfl, (nI_1 (a + i)).trans rfl, fs⟩
