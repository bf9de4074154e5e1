/-! the model's calls: footprints -/
set_option maxRecDepth 100000
def wAll (a _ : Nat) : Prop := 92 ≤ a ∧ a ≤ 138
def wSc (a j : Nat) : Prop := a = 92 ∧ (31 ≤ j ∧ j ≤ 47 ∨ j = 67 ∨ j = 68) ∨ 114 ≤ a ∧ a ≤ 123 ∨ 136 ≤ a ∧ a ≤ 138
def mQ (h : zH) (s : Int32 × gZ) (r : Int32 × zH) : Prop := r.1 = s.1 ∧ MR r.2 s.2 ∧ fr wAll h r.2
def wvP (a j : Nat) : Prop := wSc a j ∨ a = 92 ∧ j = 0 ∨ 93 ≤ a ∧ a ≤ 105
theorem MR.upP {h h' : zH} {z : gZ} (m : MR h z) (f : fr wvP h h') {v : Nat × (Nat → gP)} (hv : mC1 h' v) : MR h' (qP z v) := by
  obtain ⟨t, c, m1, m2, m3, m4, m5, m6, m7, m8, m9, m0⟩ := m
  exact ⟨t.fr f, by rw [f.I (by simp only [wvP, wSc]; omega)]; exact c, hv, m2.fr f (by simp only [wvP, wSc]; omega) (by simp only [wvP, wSc]; omega), m3.fr f (by simp only [wvP, wSc]; omega) (by simp only [wvP, wSc]; omega), m4.fr f (by simp only [wvP, wSc]; omega) (by simp only [wvP, wSc]; omega) (by simp only [wvP, wSc]; omega), m5.fr f (by simp only [wvP, wSc]; omega), m6.fr f (by simp only [wvP, wSc]; omega) (by simp only [wvP, wSc]; omega), m7.fr f (by simp only [wvP, wSc]; omega), m8.fr f (by simp only [wvP, wSc]; omega), m9.fr f (by simp only [wvP, wSc]; omega), m0.fr f (by simp only [wvP, wSc]; omega)⟩
def wvB (a j : Nat) : Prop := wSc a j ∨ a = 92 ∧ j = 14 ∨ a = 106
theorem MR.upB {h h' : zH} {z : gZ} (m : MR h z) (f : fr wvB h h') {v : List Nat} (hv : mC2 h' v) : MR h' (qB z v) := by
  obtain ⟨t, c, m1, m2, m3, m4, m5, m6, m7, m8, m9, m0⟩ := m
  exact ⟨t.fr f, by rw [f.I (by simp only [wvB, wSc]; omega)]; exact c, m1.fr f (by simp only [wvB, wSc]; omega) (by simp only [wvB, wSc]; omega), hv, m3.fr f (by simp only [wvB, wSc]; omega) (by simp only [wvB, wSc]; omega), m4.fr f (by simp only [wvB, wSc]; omega) (by simp only [wvB, wSc]; omega) (by simp only [wvB, wSc]; omega), m5.fr f (by simp only [wvB, wSc]; omega), m6.fr f (by simp only [wvB, wSc]; omega) (by simp only [wvB, wSc]; omega), m7.fr f (by simp only [wvB, wSc]; omega), m8.fr f (by simp only [wvB, wSc]; omega), m9.fr f (by simp only [wvB, wSc]; omega), m0.fr f (by simp only [wvB, wSc]; omega)⟩
def wvU (a j : Nat) : Prop := wSc a j ∨ a = 92 ∧ j = 16 ∨ a = 107
theorem MR.upU {h h' : zH} {z : gZ} (m : MR h z) (f : fr wvU h h') {v : List Nat} (hv : mC3 h' v) : MR h' (qU z v) := by
  obtain ⟨t, c, m1, m2, m3, m4, m5, m6, m7, m8, m9, m0⟩ := m
  exact ⟨t.fr f, by rw [f.I (by simp only [wvU, wSc]; omega)]; exact c, m1.fr f (by simp only [wvU, wSc]; omega) (by simp only [wvU, wSc]; omega), m2.fr f (by simp only [wvU, wSc]; omega) (by simp only [wvU, wSc]; omega), hv, m4.fr f (by simp only [wvU, wSc]; omega) (by simp only [wvU, wSc]; omega) (by simp only [wvU, wSc]; omega), m5.fr f (by simp only [wvU, wSc]; omega), m6.fr f (by simp only [wvU, wSc]; omega) (by simp only [wvU, wSc]; omega), m7.fr f (by simp only [wvU, wSc]; omega), m8.fr f (by simp only [wvU, wSc]; omega), m9.fr f (by simp only [wvU, wSc]; omega), m0.fr f (by simp only [wvU, wSc]; omega)⟩
def wvR (a j : Nat) : Prop := wSc a j ∨ a = 92 ∧ (j = 18 ∨ j = 19) ∨ a = 108
theorem MR.upR {h h' : zH} {z : gZ} (m : MR h z) (f : fr wvR h h') {v : Nat × List Nat} (hv : mC4 h' v) : MR h' (qR z v) := by
  obtain ⟨t, c, m1, m2, m3, m4, m5, m6, m7, m8, m9, m0⟩ := m
  exact ⟨t.fr f, by rw [f.I (by simp only [wvR, wSc]; omega)]; exact c, m1.fr f (by simp only [wvR, wSc]; omega) (by simp only [wvR, wSc]; omega), m2.fr f (by simp only [wvR, wSc]; omega) (by simp only [wvR, wSc]; omega), m3.fr f (by simp only [wvR, wSc]; omega) (by simp only [wvR, wSc]; omega), hv, m5.fr f (by simp only [wvR, wSc]; omega), m6.fr f (by simp only [wvR, wSc]; omega) (by simp only [wvR, wSc]; omega), m7.fr f (by simp only [wvR, wSc]; omega), m8.fr f (by simp only [wvR, wSc]; omega), m9.fr f (by simp only [wvR, wSc]; omega), m0.fr f (by simp only [wvR, wSc]; omega)⟩
def wvS (a j : Nat) : Prop := wSc a j ∨ a = 109
theorem MR.upS {h h' : zH} {z : gZ} (m : MR h z) (f : fr wvS h h') {v : Nat × Nat} (hv : mC5 h' v) : MR h' (qS z v) := by
  obtain ⟨t, c, m1, m2, m3, m4, m5, m6, m7, m8, m9, m0⟩ := m
  exact ⟨t.fr f, by rw [f.I (by simp only [wvS, wSc]; omega)]; exact c, m1.fr f (by simp only [wvS, wSc]; omega) (by simp only [wvS, wSc]; omega), m2.fr f (by simp only [wvS, wSc]; omega) (by simp only [wvS, wSc]; omega), m3.fr f (by simp only [wvS, wSc]; omega) (by simp only [wvS, wSc]; omega), m4.fr f (by simp only [wvS, wSc]; omega) (by simp only [wvS, wSc]; omega) (by simp only [wvS, wSc]; omega), hv, m6.fr f (by simp only [wvS, wSc]; omega) (by simp only [wvS, wSc]; omega), m7.fr f (by simp only [wvS, wSc]; omega), m8.fr f (by simp only [wvS, wSc]; omega), m9.fr f (by simp only [wvS, wSc]; omega), m0.fr f (by simp only [wvS, wSc]; omega)⟩
def wvL (a j : Nat) : Prop := wSc a j ∨ a = 92 ∧ j = 25 ∨ 111 ≤ a ∧ a ≤ 113
theorem MR.upL {h h' : zH} {z : gZ} (m : MR h z) (f : fr wvL h h') {v : Nat × (Nat → List Nat)} (hv : mC6 h' v) : MR h' (qL z v) := by
  obtain ⟨t, c, m1, m2, m3, m4, m5, m6, m7, m8, m9, m0⟩ := m
  exact ⟨t.fr f, by rw [f.I (by simp only [wvL, wSc]; omega)]; exact c, m1.fr f (by simp only [wvL, wSc]; omega) (by simp only [wvL, wSc]; omega), m2.fr f (by simp only [wvL, wSc]; omega) (by simp only [wvL, wSc]; omega), m3.fr f (by simp only [wvL, wSc]; omega) (by simp only [wvL, wSc]; omega), m4.fr f (by simp only [wvL, wSc]; omega) (by simp only [wvL, wSc]; omega) (by simp only [wvL, wSc]; omega), m5.fr f (by simp only [wvL, wSc]; omega), hv, m7.fr f (by simp only [wvL, wSc]; omega), m8.fr f (by simp only [wvL, wSc]; omega), m9.fr f (by simp only [wvL, wSc]; omega), m0.fr f (by simp only [wvL, wSc]; omega)⟩
def wvM (a j : Nat) : Prop := wSc a j ∨ 124 ≤ a ∧ a ≤ 135
theorem MR.upM {h h' : zH} {z : gZ} (m : MR h z) (f : fr wvM h h') {v : Nat → gM} (hv : mC7 h' v) : MR h' (qM z v) := by
  obtain ⟨t, c, m1, m2, m3, m4, m5, m6, m7, m8, m9, m0⟩ := m
  exact ⟨t.fr f, by rw [f.I (by simp only [wvM, wSc]; omega)]; exact c, m1.fr f (by simp only [wvM, wSc]; omega) (by simp only [wvM, wSc]; omega), m2.fr f (by simp only [wvM, wSc]; omega) (by simp only [wvM, wSc]; omega), m3.fr f (by simp only [wvM, wSc]; omega) (by simp only [wvM, wSc]; omega), m4.fr f (by simp only [wvM, wSc]; omega) (by simp only [wvM, wSc]; omega) (by simp only [wvM, wSc]; omega), m5.fr f (by simp only [wvM, wSc]; omega), m6.fr f (by simp only [wvM, wSc]; omega) (by simp only [wvM, wSc]; omega), hv, m8.fr f (by simp only [wvM, wSc]; omega), m9.fr f (by simp only [wvM, wSc]; omega), m0.fr f (by simp only [wvM, wSc]; omega)⟩
def wvA (a j : Nat) : Prop := wSc a j ∨ a = 92 ∧ j = 22
theorem MR.upA {h h' : zH} {z : gZ} (m : MR h z) (f : fr wvA h h') {v : Nat} (hv : mC8 h' v) : MR h' (qA z v) := by
  obtain ⟨t, c, m1, m2, m3, m4, m5, m6, m7, m8, m9, m0⟩ := m
  exact ⟨t.fr f, by rw [f.I (by simp only [wvA, wSc]; omega)]; exact c, m1.fr f (by simp only [wvA, wSc]; omega) (by simp only [wvA, wSc]; omega), m2.fr f (by simp only [wvA, wSc]; omega) (by simp only [wvA, wSc]; omega), m3.fr f (by simp only [wvA, wSc]; omega) (by simp only [wvA, wSc]; omega), m4.fr f (by simp only [wvA, wSc]; omega) (by simp only [wvA, wSc]; omega) (by simp only [wvA, wSc]; omega), m5.fr f (by simp only [wvA, wSc]; omega), m6.fr f (by simp only [wvA, wSc]; omega) (by simp only [wvA, wSc]; omega), m7.fr f (by simp only [wvA, wSc]; omega), hv, m9.fr f (by simp only [wvA, wSc]; omega), m0.fr f (by simp only [wvA, wSc]; omega)⟩
def wvK (a j : Nat) : Prop := wSc a j ∨ a = 110
theorem MR.upK {h h' : zH} {z : gZ} (m : MR h z) (f : fr wvK h h') {v : Nat × Nat × Nat} (hv : mC9 h' v) : MR h' (qK z v) := by
  obtain ⟨t, c, m1, m2, m3, m4, m5, m6, m7, m8, m9, m0⟩ := m
  exact ⟨t.fr f, by rw [f.I (by simp only [wvK, wSc]; omega)]; exact c, m1.fr f (by simp only [wvK, wSc]; omega) (by simp only [wvK, wSc]; omega), m2.fr f (by simp only [wvK, wSc]; omega) (by simp only [wvK, wSc]; omega), m3.fr f (by simp only [wvK, wSc]; omega) (by simp only [wvK, wSc]; omega), m4.fr f (by simp only [wvK, wSc]; omega) (by simp only [wvK, wSc]; omega) (by simp only [wvK, wSc]; omega), m5.fr f (by simp only [wvK, wSc]; omega), m6.fr f (by simp only [wvK, wSc]; omega) (by simp only [wvK, wSc]; omega), m7.fr f (by simp only [wvK, wSc]; omega), m8.fr f (by simp only [wvK, wSc]; omega), hv, m0.fr f (by simp only [wvK, wSc]; omega)⟩
def wvF (a j : Nat) : Prop := wSc a j ∨ a = 92 ∧ j = 24
theorem MR.upF {h h' : zH} {z : gZ} (m : MR h z) (f : fr wvF h h') {v : Nat} (hv : mC0 h' v) : MR h' (qF z v) := by
  obtain ⟨t, c, m1, m2, m3, m4, m5, m6, m7, m8, m9, m0⟩ := m
  exact ⟨t.fr f, by rw [f.I (by simp only [wvF, wSc]; omega)]; exact c, m1.fr f (by simp only [wvF, wSc]; omega) (by simp only [wvF, wSc]; omega), m2.fr f (by simp only [wvF, wSc]; omega) (by simp only [wvF, wSc]; omega), m3.fr f (by simp only [wvF, wSc]; omega) (by simp only [wvF, wSc]; omega), m4.fr f (by simp only [wvF, wSc]; omega) (by simp only [wvF, wSc]; omega) (by simp only [wvF, wSc]; omega), m5.fr f (by simp only [wvF, wSc]; omega), m6.fr f (by simp only [wvF, wSc]; omega) (by simp only [wvF, wSc]; omega), m7.fr f (by simp only [wvF, wSc]; omega), m8.fr f (by simp only [wvF, wSc]; omega), m9.fr f (by simp only [wvF, wSc]; omega), hv⟩
theorem MR.scr {h h' : zH} {z : gZ} (m : MR h z) (f : fr wSc h h') : MR h' z := m.upF (f.mono (fun _ _ w => Or.inl w)) (m.2.2.2.2.2.2.2.2.2.2.2.fr f (by unfold wSc; omega))
theorem wSc_all (a j : Nat) (w : wSc a j) : wAll a j := by unfold wSc wAll at *; omega
theorem wvP_all (a j : Nat) (w : wvP a j) : wAll a j := by unfold wvP wSc wAll at *; omega
theorem wvB_all (a j : Nat) (w : wvB a j) : wAll a j := by unfold wvB wSc wAll at *; omega
theorem wvU_all (a j : Nat) (w : wvU a j) : wAll a j := by unfold wvU wSc wAll at *; omega
theorem wvR_all (a j : Nat) (w : wvR a j) : wAll a j := by unfold wvR wSc wAll at *; omega
theorem wvS_all (a j : Nat) (w : wvS a j) : wAll a j := by unfold wvS wSc wAll at *; omega
theorem wvL_all (a j : Nat) (w : wvL a j) : wAll a j := by unfold wvL wSc wAll at *; omega
theorem wvM_all (a j : Nat) (w : wvM a j) : wAll a j := by unfold wvM wSc wAll at *; omega
theorem wvA_all (a j : Nat) (w : wvA a j) : wAll a j := by unfold wvA wSc wAll at *; omega
theorem wvK_all (a j : Nat) (w : wvK a j) : wAll a j := by unfold wvK wSc wAll at *; omega
theorem wvF_all (a j : Nat) (w : wvF a j) : wAll a j := by unfold wvF wSc wAll at *; omega
theorem MR.st {h : zH} {z : gZ} (m : MR h z) : mSt h := m.1
theorem MR.ct {h : zH} {z : gZ} (m : MR h z) : zI h 92 48 = 0 := m.2.1
theorem MR.pg {h : zH} {z : gZ} (m : MR h z) : mC1 h z.pg := m.2.2.1
theorem MR.by {h : zH} {z : gZ} (m : MR h z) : mC2 h z.by := m.2.2.2.1
theorem MR.un {h : zH} {z : gZ} (m : MR h z) : mC3 h z.un := m.2.2.2.2.1
theorem MR.re {h : zH} {z : gZ} (m : MR h z) : mC4 h z.re := m.2.2.2.2.2.1
theorem MR.sg {h : zH} {z : gZ} (m : MR h z) : mC5 h z.sg := m.2.2.2.2.2.2.1
theorem MR.fa {h : zH} {z : gZ} (m : MR h z) : mC6 h z.fa := m.2.2.2.2.2.2.2.1
theorem MR.ma {h : zH} {z : gZ} (m : MR h z) : mC7 h z.ma := m.2.2.2.2.2.2.2.2.1
theorem MR.pl {h : zH} {z : gZ} (m : MR h z) : mC8 h z.pl := m.2.2.2.2.2.2.2.2.2.1
theorem MR.br {h : zH} {z : gZ} (m : MR h z) : mC9 h z.br := m.2.2.2.2.2.2.2.2.2.2.1
theorem MR.fi {h : zH} {z : gZ} (m : MR h z) : mC0 h z.fi := m.2.2.2.2.2.2.2.2.2.2.2
theorem MR.tell {h : zH} {z : gZ} (m : MR h z) : MR (zsI h 92 24 (zI h 92 24 + 1)) (qF z (z.fi + 1)) := by
  have f : fr wvF h (zsI h 92 24 (zI h 92 24 + 1)) := (fr.refl _ h).sI (Or.inr ⟨rfl, rfl⟩) _
  refine m.upF f ?_
  show _ = _
  rw [eI, if_pos ⟨rfl, rfl⟩, m.fi, nI_1]
theorem m_tell {h h1 : zH} {z : gZ} {v : Int32} (m : MR h1 z) (f : fr wAll h h1) (hv : v < 0) : zw (fX9_tell h1 92 v) (mQ h (qT z v)) := by
  unfold fX9_tell
  rw [if_neg (by rw [neg_nn hv]; exact id)]
  exact ⟨_, rfl, rfl, m.tell, f.sI (by unfold wAll; omega) _⟩
theorem m_tell' {h h1 : zH} {z : gZ} {v : Int32} (m : MR h1 z) (f : fr wAll h h1) (hv : v < 0) : zw (zb2 (fX9_tell h1 92 v) (fun a b => some (a, b))) (mQ h (qT z v)) := by
  rw [zw_b2]
  exact (m_tell m f hv).mono fun y hy => ⟨_, rfl, hy⟩
