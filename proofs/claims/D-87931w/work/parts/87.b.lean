/-! send: the model, entries and shifts -/
set_option maxRecDepth 100000
def wPu (a j : Nat) : Prop := a = 119 ∨ a = 92 ∧ j = 37
theorem m_put' {h : zH} {st pd f v : Nat} {o : List Nat} (r : RD h 119 st pd o f) (ok : obOk h 119) (hl : o.length < 6400) : zw (fX9_put h 92 (nI v)) (fun h' => RD h' 119 st pd (o ++ [v]) f ∧ fr wPu h h') := m_put r ok (by rw [ok.2]; exact hl)
theorem m_sndE {h : zH} {p k st pd f : Nat} {g : gP} {o : List Nat} (mp : mPg h p g) (sm : gSm g) (hp : p < 11) (hk : k < g 2 0) (r : RD h 119 st pd o f) (ok : obOk h 119) (hl : o.length + 9 ≤ 6400) : zw (fX9_send_L74 h 92 (nI p) (nI (100 * p + k))) (fun q => ∃ h', q = .inl (h', nI (100 * p + (k + 1))) ∧ RD h' 119 st pd (o ++ entL g k) f ∧ fr wPu h h') := by
  have s2 := sm.2.2.1
  have b0 := (sm.2.2.2.2.1 k hk).lt
  unfold fX9_send_L74
  rw [zw_ck, nI_clamp (by omega), show zI h (92 + 3) p = nI (g 2 0) from mp.c2, show (100 : Int32) = nI 100 from rfl, pk_mul, nI_add, if_neg (by rw [nI_leI (by omega) (by omega)]; omega), zw_ck, nI_clamp (by omega), show zI h (92 + 5) (100 * p + k) = nI (g 4 k) from mp.e0 hk, zw_b1]
  refine ⟨vin hp (by omega), vin (by omega) (by omega), (m_put' r ok (by omega)).mono ?_⟩
  rintro h1 ⟨r1, f1⟩
  have g1 : mPg h1 p g := mp.fr f1 (fun a j q1 q2 => by unfold wPu; omega)
  rw [zw_ck, show zI h1 (92 + 6) (100 * p + k) = nI (g 5 k) from g1.e1 hk, zw_b1]
  refine ⟨vin (by omega) (by omega), (m_put' r1 (obOk_fr f1 ok) (by rw [List.length_append]; show o.length + 1 < _; omega)).mono ?_⟩
  rintro h2 ⟨r2, f2⟩
  have g2 : mPg h2 p g := g1.fr f2 (fun a j q1 q2 => by unfold wPu; omega)
  rw [zw_ck, show zI h2 (92 + 6) (100 * p + k) = nI (g 5 k) from g2.e1 hk, zw_b1]
  have l2 : (o ++ [g 4 k] ++ [g 5 k]).length = o.length + 2 := by simp only [List.length_append, List.length_cons, List.length_nil]
  refine ⟨vin (by omega) (by omega), (m_sndB (c := 7) (e := 100 * p + k) (n := g 5 k) (v := g 6 k) (Or.inl rfl) (by omega) (by omega) (by omega) (g2.e2 hk) r2 (obOk_fr (f1.trans f2) ok) (by rw [l2]; omega)).mono ?_⟩
  rintro h3 ⟨r3, f3⟩
  have f3' : fr wPu h h3 := (f1.trans f2).trans f3
  have g3 : mPg h3 p g := mp.fr f3' (fun a j q1 q2 => by unfold wPu; omega)
  rw [zw_b1]
  refine (m_sndB (c := 8) (e := 100 * p + k) (n := 3) (v := g 7 k) (Or.inr rfl) (by omega) (by omega) (by omega) (g3.e3 hk) r3 (obOk_fr f3' ok) (by rw [List.length_append, l2, bCat_len]; omega)).mono ?_
  rintro h4 ⟨r4, f4⟩
  have f4' : fr wPu h h4 := f3'.trans f4
  have g4 : mPg h4 p g := mp.fr f4' (fun a j q1 q2 => by unfold wPu; omega)
  have l4 : (o ++ [g 4 k] ++ [g 5 k] ++ bCat (g 5 k) (g 6 k) (g 5 k) ++ bCat 3 (g 7 k) 3).length < 6400 := by rw [List.length_append, List.length_append, l2, bCat_len, bCat_len]; omega
  have fin : ∀ v, v = g 8 k → zw (fX9_put h4 92 (nI v)) (fun h5 => ∃ h', (.inl (h5, nI (100 * p + k) + 1) : (zH × Int32) ⊕ zH) = .inl (h', nI (100 * p + (k + 1))) ∧ RD h' 119 st pd (o ++ entL g k) f ∧ fr wPu h h') := by
    rintro v rfl
    refine (m_put' r4 (obOk_fr f4' ok) l4).mono ?_
    rintro h5 ⟨r5, f5⟩
    refine ⟨h5, by rw [nI_1]; rfl, ?_, f4'.trans f5⟩
    have : o ++ entL g k = o ++ [g 4 k] ++ [g 5 k] ++ bCat (g 5 k) (g 6 k) (g 5 k) ++ bCat 3 (g 7 k) 3 ++ [g 8 k] := by
      unfold entL
      simp only [List.append_assoc, List.cons_append, List.nil_append]
    rw [this]
    exact r5
  rw [zw_ck, show zI h4 (92 + 9) (100 * p + k) = nI (g 8 k) from g4.e4 hk]
  refine ⟨vin (by omega) (by omega), ?_⟩
  by_cases c : g 8 k = 0
  · rw [if_pos (by rw [c]; rfl), zw_b1]
    exact (fin 0 c.symm).mono fun h5 q => by rw [zw_some]; exact q
  · rw [if_neg (by rw [n_0 (by omega)]; exact c), zw_b1]
    exact (fin 1 (by omega)).mono fun h5 q => by rw [zw_some]; exact q
theorem m_sndS {h : zH} {p k st pd f : Nat} {g : gP} {o : List Nat} (mp : mPg h p g) (sm : gSm g) (hp : p < 11) (hk : k < g 3 0) (r : RD h 119 st pd o f) (ok : obOk h 119) (hl : o.length + 4 ≤ 6400) : zw (fX9_send_L217 h 92 (nI p) (nI (10 * p + k))) (fun q => ∃ h', q = .inl (h', nI (10 * p + (k + 1))) ∧ RD h' 119 st pd (o ++ shL g k) f ∧ fr wPu h h') := by
  have s3 := sm.2.2.2.1
  have b0 := sm.2.2.2.2.2 k hk
  unfold sWf at b0
  unfold fX9_send_L217
  rw [zw_ck, nI_clamp (by omega), show zI h (92 + 4) p = nI (g 3 0) from mp.c3, show (10 : Int32) = nI 10 from rfl, pk_mul, nI_add, if_neg (by rw [nI_leI (by omega) (by omega)]; omega), zw_ck, nI_clamp (by omega), show zI h (92 + 10) (10 * p + k) = nI (g 9 k) from mp.s0 hk, zw_b1]
  refine ⟨vin hp (by omega), vin (by omega) (by omega), (m_put' r ok (by omega)).mono ?_⟩
  rintro h1 ⟨r1, f1⟩
  have g1 : mPg h1 p g := mp.fr f1 (fun a j q1 q2 => by unfold wPu; omega)
  rw [zw_ck, show zI h1 (92 + 11) (10 * p + k) = nI (g 10 k) from g1.s1 hk, zw_b1]
  refine ⟨vin (by omega) (by omega), (m_put' r1 (obOk_fr f1 ok) (by rw [List.length_append]; show o.length + 1 < _; omega)).mono ?_⟩
  rintro h2 ⟨r2, f2⟩
  have g2 : mPg h2 p g := g1.fr f2 (fun a j q1 q2 => by unfold wPu; omega)
  rw [zw_ck, show zI h2 (92 + 12) (10 * p + k) = nI (g 11 k) from g2.s2 hk, zw_b1]
  refine ⟨vin (by omega) (by omega), (m_put' r2 (obOk_fr (f1.trans f2) ok) (by simp only [List.length_append, List.length_cons, List.length_nil]; omega)).mono ?_⟩
  rintro h3 ⟨r3, f3⟩
  have f3' : fr wPu h h3 := (f1.trans f2).trans f3
  have g3 : mPg h3 p g := mp.fr f3' (fun a j q1 q2 => by unfold wPu; omega)
  have fin : ∀ v, v = g 12 k → zw (fX9_put h3 92 (nI v)) (fun h5 => ∃ h', (.inl (h5, nI (10 * p + k) + 1) : (zH × Int32) ⊕ zH) = .inl (h', nI (10 * p + (k + 1))) ∧ RD h' 119 st pd (o ++ shL g k) f ∧ fr wPu h h') := by
    rintro v rfl
    refine (m_put' r3 (obOk_fr f3' ok) (by simp only [List.length_append, List.length_cons, List.length_nil]; omega)).mono ?_
    rintro h5 ⟨r5, f5⟩
    refine ⟨h5, by rw [nI_1]; rfl, ?_, f3'.trans f5⟩
    have : o ++ shL g k = o ++ [g 9 k] ++ [g 10 k] ++ [g 11 k] ++ [g 12 k] := by
      unfold shL
      simp only [List.append_assoc, List.cons_append, List.nil_append]
    rw [this]
    exact r5
  rw [zw_ck, show zI h3 (92 + 13) (10 * p + k) = nI (g 12 k) from g3.s3 hk]
  refine ⟨vin (by omega) (by omega), ?_⟩
  by_cases c : g 12 k = 0
  · rw [if_pos (by rw [c]; rfl), zw_b1]
    exact (fin 0 c.symm).mono fun h5 q => by rw [zw_some]; exact q
  · rw [if_neg (by rw [n_0 (by omega)]; exact c), zw_b1]
    exact (fin 1 (by omega)).mono fun h5 q => by rw [zw_some]; exact q
