/-! THE EXCHANGE's CELLS (it stands at 1) -/
set_option maxRecDepth 100000
/-- the exchange's own: where its pages lie, its spare table, which row is the result -/
abbrev gY : Type := (Nat → Nat) × Nat × Nat
def sz (g : gP) : Nat := if g 0 0 = 0 then 22 else 1
def ap (x m y n : Nat) : Prop := x + m ≤ y ∨ y + n ≤ x
def xAd (N np : Nat) (ps : Nat → gP) (ad : Nat → Nat) (sp : Nat) : Prop := (∀ p, p < np → (139 ≤ ad p ∨ ad p = 4 ∧ ps p 0 0 = 0) ∧ ad p + sz (ps p) ≤ N) ∧ (∀ p q, p < np → q < np → p ≠ q → ap (ad p) (sz (ps p)) (ad q) (sz (ps q))) ∧ (139 ≤ sp ∨ sp = 4) ∧ sp + 22 ≤ N ∧ ∀ p, p < np → ap (ad p) (sz (ps p)) sp 22
def dSc (ad : Nat → Nat) (np sp a j : Nat) : Prop := (j ≤ 2 ∧ ∃ p, p < np ∧ a = ad p) ∨ sp ≤ a ∧ a < sp + 22
def sSc (b a j : Nat) : Prop := a = 1 ∧ j = 32 ∨ a = 2 ∨ 36 ≤ a ∧ a ≤ 41 ∨ a = 46 ∨ a = 47 ∨ 49 ≤ a ∧ a ≤ 53 ∨ a = 44 - 2 * b ∨ a = 45 - 2 * b
def wxSc (np : Nat) (y : gY) (a j : Nat) : Prop := sSc y.2.2 a j ∨ dSc y.1 np y.2.1 a j
theorem dSc_no {N np : Nat} {ps : Nat → gP} {ad : Nat → Nat} {sp a j : Nat} (x : xAd N np ps ad sp) (ha : a < 4 ∨ 26 ≤ a ∧ a < 139) : ¬ dSc ad np sp a j := by
  rintro (⟨_, p, hp, rfl⟩ | h)
  · have := (x.1 p hp).1; omega
  · have := x.2.2.1; omega
theorem sz_le (g : gP) : 1 ≤ sz g ∧ sz g ≤ 22 := by unfold sz; split <;> omega
/-- a page keeps what it says if nothing of its own but its hits was changed -/
theorem xPg_fx {W : Nat → Nat → Prop} {h h' : zH} {a : Nat} {g : gP} (f : fx W h h') (hn : a + sz g ≤ zn h) (hw : ∀ i j, i < sz g → W (a + i) j → i = 0 ∧ j ≤ 2) (m : xPg h a g) : xPg h' a g := by
  refine ⟨fun h0 => ?_, fun h0 => ?_⟩
  · have hs : sz g = 22 := if_pos h0
    rw [hs] at hn hw
    obtain ⟨t, m, c⟩ := m.1 h0
    have eI' : ∀ i j, i < 22 → (1 ≤ i ∨ 3 ≤ j) → zI h' (a + i) j = zI h (a + i) j := fun i j hi hj => f.I (by omega) (fun w => by have := hw i j hi w; omega)
    have eL' : ∀ i j, 1 ≤ i → i < 22 → zL h' (a + i) j = zL h (a + i) j := fun i j h1 hi => f.L (by omega) (fun w => by have := hw i j hi w; omega)
    have e0 : ∀ j, 3 ≤ j → zI h' a j = zI h a j := fun j hj => eI' 0 j (by omega) (Or.inr hj)
    refine ⟨zCt.ext t f.lx, ⟨(e0 _ (by omega)).trans m.1, (e0 _ (by omega)).trans m.2.1, (e0 _ (by omega)).trans m.2.2.1, fun c k hc hk => (eI' _ _ (by unfold xo; (repeat' split) <;> omega) (by unfold xo; (repeat' split) <;> omega)).trans (m.2.2.2.1 c k hc hk), fun c k hc hk => ?_⟩, fun h1 => ?_⟩
    · rw [Nat.add_assoc]
      refine (eI' _ _ (by omega) (by omega)).trans ?_
      have := m.2.2.2.2 c k hc hk
      rw [Nat.add_assoc] at this
      exact this
    · obtain ⟨c1, ⟨sn, so, c2, c3⟩, tn, tu, c4, c5, c6⟩ := c h1
      refine ⟨fun s t hs ht => ?_, ⟨sn, so, fun s hs => ⟨(eI' _ _ (by omega) (by omega)).trans (c2 s hs).1, fun i hi => ?_⟩, c3⟩, tn, tu, (e0 _ (by omega)).trans c4, fun i hi => (eI' _ _ (by omega) (by omega)).trans (c5 i hi), c6⟩
      · obtain ⟨d1, d2, d3, d4⟩ := c1 s t hs ht
        exact ⟨(eI' _ _ (by omega) (by omega)).trans d1, fun l hl => (eL' _ _ (by omega) (by omega)).trans (d2 l hl), (eI' _ _ (by omega) (by omega)).trans d3, fun l hl => ⟨(eL' _ _ (by omega) (by omega)).trans (d4 l hl).1, (eI' _ _ (by omega) (by omega)).trans (d4 l hl).2⟩⟩
      · have := (c2 s hs).2 i hi
        rw [Nat.add_assoc] at this ⊢
        exact (eI' _ _ (by omega) (by omega)).trans this
  · obtain ⟨t, m⟩ := m.2 h0
    exact ⟨zCt.ext t f.lx, m⟩
def xC1 (h : zH) (y : gY) (v : Nat × (Nat → gP)) : Prop := 139 ≤ zn h ∧ zI h 1 2 = nI v.1 ∧ v.1 ≤ 10 ∧ (∀ p, p < 10 → zP h (54 + p) 0 = if p < v.1 then some (y.1 p) else none) ∧ zP h 1 3 = some y.2.1 ∧ zTb h y.2.1 ∧ xAd (zn h) v.1 v.2 y.1 y.2.1 ∧ ∀ p, p < v.1 → xPg h (y.1 p) (v.2 p)
def xC2 (h : zH) (v : List Nat) : Prop := rC h 1 5 26 v
def xC3 (h : zH) (v : List Nat) : Prop := rC h 1 7 27 v
def xC4 (h : zH) (b : Nat) (v : Nat × List Nat) : Prop := b ≤ 1 ∧ zP h 1 24 = some (42 + 2 * b) ∧ zP h 1 25 = some (44 - 2 * b) ∧ zI h 1 27 = nI v.1 ∧ (v.1 = 0 → v.2 = []) ∧ (v.1 ≠ 0 → zI h (42 + 2 * b) 1 = nI v.2.length ∧ rw h (43 + 2 * b) v.2)
def xC5 (h : zH) (v : Nat × Nat) : Prop := zI h 28 0 = nI v.1 ∧ zI h 28 1 = nI v.2
def xFa (h : zH) (n : Nat) (pt : Nat → Nat) (F : Nat → List Nat) : Prop := zI h 1 9 = nI n ∧ (∀ k, k < n → zI h 29 k = nI (pt k) ∧ zI h 30 k = nI (F (pt k)).length ∧ ∀ i, i < (F (pt k)).length → zI h 31 (4 * k + i) = nI ((F (pt k)).getD i 0))
def xC6 (h : zH) (v : Nat × (Nat → List Nat)) : Prop := ∃ pt, xFa h v.1 pt v.2 ∧ gFa v.1 pt v.2
/-- a machine's object: reader, writer -/
def xMo (d wr : Nat) : Nat := if wr = 0 then 65 + 7 * d else 68 + 7 * d
def xMb (h : zH) (o : Nat) (ad : Nat → Nat) (m : gM) : Prop := zP h o 1 = some o ∧ zP h o 2 = some (ad (m.1 1)) ∧ zI h o 3 = nI (m.1 3) ∧ zI h o 6 = nI (m.1 4) ∧ zI h o 7 = nI (m.1 5) ∧ zI h o 8 = nI m.2.1.length ∧ zI h o 9 = nI (m.1 6) ∧ zI h o 10 = nI (m.1 7) ∧ zI h o 5 = nI m.2.2.length ∧ (∃ fi, zI h o 4 = nI fi ∧ fi + m.2.2.length ≤ 700 ∧ ∀ i, i < m.2.2.length → zI h (o + 1) (fi + i) = nI (m.2.2.getD i 0)) ∧ (m.1 2 = 0 → ∀ i, i < m.2.1.length → zI h (o + 2) i = nI (m.2.1.getD i 0)) ∧ (m.1 2 ≠ 0 → m.2.1 ≠ [] → zI h o 12 = nI (m.2.1.getD 0 0))
def xMa (h : zH) (ad : Nat → Nat) (d : Nat) (m : gM) : Prop := (m.1 0 = 0 → zP h (64 + 7 * d) 0 = none) ∧ (m.1 0 = 1 → zP h (64 + 7 * d) 0 = some (xMo d (m.1 2)) ∧ xMb h (xMo d (m.1 2)) ad m)
def xC7 (h : zH) (ad : Nat → Nat) (v : Nat → gM) : Prop := ∀ d, d < 4 → xMa h ad d (v d)
def xC8 (h : zH) (v : Nat) : Prop := zI h 1 19 = nI v
def xC9 (h : zH) (v : Nat × Nat × Nat) : Prop := zI h 1 20 = nI v.1 ∧ zI h 1 21 = nI v.2.1 ∧ zI h 1 22 = nI v.2.2
def xC0 (h : zH) (v : Nat) : Prop := zI h 1 23 = nI v
def XR (h : zH) (y : gY) (z : gZ) : Prop := zXx h 1 ∧ xC1 h y z.pg ∧ xC2 h z.by ∧ xC3 h z.un ∧ xC4 h y.2.2 z.re ∧ xC5 h z.sg ∧ xC6 h z.fa ∧ xC7 h y.1 z.ma ∧ xC8 h z.pl ∧ xC9 h z.br ∧ xC0 h z.fi
section XFR
variable {W : Nat → Nat → Prop} {h h' : zH}
theorem xAd.up {N N' np ps ad sp} (x : xAd N np ps ad sp) (hN : N ≤ N') : xAd N' np ps ad sp := ⟨fun p hp => ⟨(x.1 p hp).1, Nat.le_trans (x.1 p hp).2 hN⟩, x.2.1, x.2.2.1, Nat.le_trans x.2.2.2.1 hN, x.2.2.2.2⟩
theorem xC1_fx (f : fx W h h') {y v} (w : ∀ a j, a = 1 ∧ (j = 2 ∨ j = 3) ∨ 54 ≤ a ∧ a ≤ 63 → ¬ W a j) (wd : ∀ a j, 4 ≤ a ∧ a ≤ 25 ∨ 139 ≤ a → W a j → dSc y.1 v.1 y.2.1 a j) (m : xC1 h y v) : xC1 h' y v := by
  obtain ⟨n, m1, m2, m3, m4, m5, m6, m7⟩ := m
  refine ⟨Nat.le_trans n f.1.1, (f.I (by omega) (w _ _ (by omega))).trans m1, m2, fun p hp => (f.P (by omega) (w _ _ (by omega))).trans (m3 p hp), (f.P (by omega) (w _ _ (by omega))).trans m4, zCt.ext m5 f.lx, m6.up f.1.1, fun p hp => xPg_fx f (m6.1 p hp).2 (fun i j hi hw => ?_) (m7 p hp)⟩
  have h1 := m6.1 p hp
  have s1 := sz_le (v.2 p)
  have hd := wd (y.1 p + i) j (by have := s1.2; rcases h1.1 with e | ⟨e, e2⟩; omega; omega) hw
  rcases hd with ⟨hj, q, hq, e⟩ | hd
  · by_cases hpq : p = q
    · subst hpq; omega
    · have h2 := m6.2.1 p q hp hq hpq
      have s2 := sz_le (v.2 q)
      unfold ap at h2
      omega
  · have h2 := m6.2.2.2.2 p hp
    unfold ap at h2
    omega
theorem rC_fx (f : fx W h h') {A k r : Nat} {l : List Nat} (hA : A < zn h) (hr : r < zn h) (w0 : ¬ W A k) (w : ∀ j, ¬ W r j) (m : rC h A k r l) : rC h' A k r l := ⟨(f.I hA w0).trans m.1, fun j hj => (f.I hr (w j)).trans (m.2 j hj)⟩
theorem xC2_fx (f : fx W h h') (hn : 139 ≤ zn h) {v} (w : ∀ a j, a = 1 ∧ j = 5 ∨ a = 26 → ¬ W a j) (m : xC2 h v) : xC2 h' v := rC_fx f (by omega) (by omega) (w _ _ (by omega)) (fun j => w _ _ (by omega)) m
theorem xC3_fx (f : fx W h h') (hn : 139 ≤ zn h) {v} (w : ∀ a j, a = 1 ∧ j = 7 ∨ a = 27 → ¬ W a j) (m : xC3 h v) : xC3 h' v := rC_fx f (by omega) (by omega) (w _ _ (by omega)) (fun j => w _ _ (by omega)) m
theorem xC4_fx (f : fx W h h') (hn : 139 ≤ zn h) {b v} (w : ∀ a j, a = 1 ∧ (j = 24 ∨ j = 25 ∨ j = 27) ∨ a = 42 + 2 * b ∨ a = 43 + 2 * b → ¬ W a j) (m : xC4 h b v) : xC4 h' b v := by
  obtain ⟨m1, m2, m3, m4, m5, m6⟩ := m
  exact ⟨m1, (f.P (by omega) (w _ _ (by omega))).trans m2, (f.P (by omega) (w _ _ (by omega))).trans m3, (f.I (by omega) (w _ _ (by omega))).trans m4, m5, fun h0 => ⟨(f.I (by omega) (w _ _ (by omega))).trans (m6 h0).1, fun j hj => (f.I (by omega) (w _ _ (by omega))).trans ((m6 h0).2 j hj)⟩⟩
theorem xC5_fx (f : fx W h h') (hn : 139 ≤ zn h) {v} (w : ∀ a j, a = 28 → ¬ W a j) (m : xC5 h v) : xC5 h' v := ⟨(f.I (by omega) (w _ _ rfl)).trans m.1, (f.I (by omega) (w _ _ rfl)).trans m.2⟩
theorem xFa_fx (f : fx W h h') (hn : 139 ≤ zn h) {n pt F} (w : ∀ a j, a = 1 ∧ j = 9 ∨ 29 ≤ a ∧ a ≤ 31 → ¬ W a j) (m : xFa h n pt F) : xFa h' n pt F := ⟨(f.I (by omega) (w _ _ (by omega))).trans m.1, fun k hk => ⟨(f.I (by omega) (w _ _ (by omega))).trans (m.2 k hk).1, (f.I (by omega) (w _ _ (by omega))).trans (m.2 k hk).2.1, fun i hi => (f.I (by omega) (w _ _ (by omega))).trans ((m.2 k hk).2.2 i hi)⟩⟩
theorem xC6_fx (f : fx W h h') (hn : 139 ≤ zn h) {v} (w : ∀ a j, a = 1 ∧ j = 9 ∨ 29 ≤ a ∧ a ≤ 31 → ¬ W a j) (m : xC6 h v) : xC6 h' v := by
  obtain ⟨pt, m1, m2⟩ := m
  exact ⟨pt, xFa_fx f hn w m1, m2⟩
theorem xMb_fx (f : fx W h h') (hn : 139 ≤ zn h) {o ad m} (ho : o ≤ 89) (w : ∀ a j, o ≤ a ∧ a ≤ o + 2 → ¬ W a j) (x : xMb h o ad m) : xMb h' o ad m := by
  obtain ⟨m1, m2, m3, m4, m5, m6, m7, m8, m9, ⟨fi, q1, q2, q3⟩, m10, m11⟩ := x
  exact ⟨(f.P (by omega) (w _ _ (by omega))).trans m1, (f.P (by omega) (w _ _ (by omega))).trans m2, (f.I (by omega) (w _ _ (by omega))).trans m3, (f.I (by omega) (w _ _ (by omega))).trans m4, (f.I (by omega) (w _ _ (by omega))).trans m5, (f.I (by omega) (w _ _ (by omega))).trans m6, (f.I (by omega) (w _ _ (by omega))).trans m7, (f.I (by omega) (w _ _ (by omega))).trans m8, (f.I (by omega) (w _ _ (by omega))).trans m9, ⟨fi, (f.I (by omega) (w _ _ (by omega))).trans q1, q2, fun i hi => (f.I (by omega) (w _ _ (by omega))).trans (q3 i hi)⟩, fun h0 i hi => (f.I (by omega) (w _ _ (by omega))).trans (m10 h0 i hi), fun h0 h1 => (f.I (by omega) (w _ _ (by omega))).trans (m11 h0 h1)⟩
theorem xMo_rg {d wr : Nat} (hd : d < 4) : 65 + 7 * d ≤ xMo d wr ∧ xMo d wr ≤ 68 + 7 * d := by unfold xMo; split <;> omega
theorem xMa_fx (f : fx W h h') (hn : 139 ≤ zn h) {ad d m} (hd : d < 4) (w : ∀ a j, 64 + 7 * d ≤ a ∧ a ≤ 70 + 7 * d → ¬ W a j) (x : xMa h ad d m) : xMa h' ad d m := by
  have r := xMo_rg (wr := m.1 2) hd
  exact ⟨fun h0 => (f.P (by omega) (w _ _ (by omega))).trans (x.1 h0), fun h1 => ⟨(f.P (by omega) (w _ _ (by omega))).trans (x.2 h1).1, xMb_fx f hn (by omega) (fun a j ha => w a j (by omega)) (x.2 h1).2⟩⟩
theorem xC7_fx (f : fx W h h') (hn : 139 ≤ zn h) {ad v} (w : ∀ a j, 64 ≤ a ∧ a ≤ 91 → ¬ W a j) (m : xC7 h ad v) : xC7 h' ad v := fun d hd => xMa_fx f hn hd (fun a j ha => w a j (by omega)) (m d hd)
theorem xC8_fx (f : fx W h h') (hn : 139 ≤ zn h) {v} (w : ∀ a j, a = 1 ∧ j = 19 → ¬ W a j) (m : xC8 h v) : xC8 h' v := (f.I (by omega) (w _ _ (by omega))).trans m
theorem xC9_fx (f : fx W h h') (hn : 139 ≤ zn h) {v} (w : ∀ a j, a = 1 ∧ 20 ≤ j ∧ j ≤ 22 → ¬ W a j) (m : xC9 h v) : xC9 h' v := ⟨(f.I (by omega) (w _ _ (by omega))).trans m.1, (f.I (by omega) (w _ _ (by omega))).trans m.2.1, (f.I (by omega) (w _ _ (by omega))).trans m.2.2⟩
theorem xC0_fx (f : fx W h h') (hn : 139 ≤ zn h) {v} (w : ∀ a j, a = 1 ∧ j = 23 → ¬ W a j) (m : xC0 h v) : xC0 h' v := (f.I (by omega) (w _ _ (by omega))).trans m
end XFR
theorem XR.st {h : zH} {y : gY} {z : gZ} (m : XR h y z) : zXx h 1 := m.1
theorem XR.pg {h : zH} {y : gY} {z : gZ} (m : XR h y z) : xC1 h y z.pg := m.2.1
theorem XR.by {h : zH} {y : gY} {z : gZ} (m : XR h y z) : xC2 h z.by := m.2.2.1
theorem XR.un {h : zH} {y : gY} {z : gZ} (m : XR h y z) : xC3 h z.un := m.2.2.2.1
theorem XR.re {h : zH} {y : gY} {z : gZ} (m : XR h y z) : xC4 h y.2.2 z.re := m.2.2.2.2.1
theorem XR.sg {h : zH} {y : gY} {z : gZ} (m : XR h y z) : xC5 h z.sg := m.2.2.2.2.2.1
theorem XR.fa {h : zH} {y : gY} {z : gZ} (m : XR h y z) : xC6 h z.fa := m.2.2.2.2.2.2.1
theorem XR.ma {h : zH} {y : gY} {z : gZ} (m : XR h y z) : xC7 h y.1 z.ma := m.2.2.2.2.2.2.2.1
theorem XR.pl {h : zH} {y : gY} {z : gZ} (m : XR h y z) : xC8 h z.pl := m.2.2.2.2.2.2.2.2.1
theorem XR.br {h : zH} {y : gY} {z : gZ} (m : XR h y z) : xC9 h z.br := m.2.2.2.2.2.2.2.2.2.1
theorem XR.fi {h : zH} {y : gY} {z : gZ} (m : XR h y z) : xC0 h z.fi := m.2.2.2.2.2.2.2.2.2.2
theorem XR.n {h : zH} {y : gY} {z : gZ} (m : XR h y z) : 139 ≤ zn h := m.pg.1
def wX (a _ : Nat) : Prop := a ≠ 0 ∧ ¬ (92 ≤ a ∧ a ≤ 138)
/-- an answer of the exchange: what it says, what it leaves, what it made -/
def xQ (h : zH) (s : Int32 × gZ) (r : Int32 × zH) : Prop := r.1 = s.1 ∧ (∃ y, XR r.2 y s.2) ∧ fx wX h r.2 ∧ zc r.2 ≤ zc h + 100 ∧ zu r.2 ≤ zu h + 10000
def wxB (np : Nat) (y : gY) (a j : Nat) : Prop := wxSc np y a j ∨ a = 1 ∧ j = 5 ∨ a = 26
theorem XR.upB {h h' : zH} {y : gY} {z : gZ} (m : XR h y z) (f : fx (wxB z.pg.1 y) h h') {v : List Nat} (hv : xC2 h' v) : XR h' y (qB z v) := by
  obtain ⟨t, m1, m2, m3, m4, m5, m6, m7, m8, m9, m0⟩ := m
  have hn : 139 ≤ zn h := m1.1
  have key : ∀ a j, a < 4 ∨ 26 ≤ a ∧ a < 139 → wxB z.pg.1 y a j → sSc y.2.2 a j ∨ a = 1 ∧ j = 5 ∨ a = 26 := fun a j ha w => by
    rcases w with (w | w) | w
    · exact Or.inl w
    · exact absurd w (dSc_no m1.2.2.2.2.2.2.1 ha)
    · exact Or.inr w
  exact ⟨zCt.ext t f.lx, xC1_fx f (fun a j hr w => by have h4 := m4.1; have := key a j (by omega) w; unfold sSc at this; omega) (fun a j ha w => by rcases w with (w | w) | w; exact absurd w (by unfold sSc; have := m4.1; omega); exact w; exact absurd w (by omega)) m1, hv, xC3_fx f hn (fun a j hr w => by have h4 := m4.1; have := key a j (by omega) w; unfold sSc at this; omega) m3, xC4_fx f hn (fun a j hr w => by have h4 := m4.1; have := key a j (by omega) w; unfold sSc at this; omega) m4, xC5_fx f hn (fun a j hr w => by have h4 := m4.1; have := key a j (by omega) w; unfold sSc at this; omega) m5, xC6_fx f hn (fun a j hr w => by have h4 := m4.1; have := key a j (by omega) w; unfold sSc at this; omega) m6, xC7_fx f hn (fun a j hr w => by have h4 := m4.1; have := key a j (by omega) w; unfold sSc at this; omega) m7, xC8_fx f hn (fun a j hr w => by have h4 := m4.1; have := key a j (by omega) w; unfold sSc at this; omega) m8, xC9_fx f hn (fun a j hr w => by have h4 := m4.1; have := key a j (by omega) w; unfold sSc at this; omega) m9, xC0_fx f hn (fun a j hr w => by have h4 := m4.1; have := key a j (by omega) w; unfold sSc at this; omega) m0⟩
def wxU (np : Nat) (y : gY) (a j : Nat) : Prop := wxSc np y a j ∨ a = 1 ∧ j = 7 ∨ a = 27
theorem XR.upU {h h' : zH} {y : gY} {z : gZ} (m : XR h y z) (f : fx (wxU z.pg.1 y) h h') {v : List Nat} (hv : xC3 h' v) : XR h' y (qU z v) := by
  obtain ⟨t, m1, m2, m3, m4, m5, m6, m7, m8, m9, m0⟩ := m
  have hn : 139 ≤ zn h := m1.1
  have key : ∀ a j, a < 4 ∨ 26 ≤ a ∧ a < 139 → wxU z.pg.1 y a j → sSc y.2.2 a j ∨ a = 1 ∧ j = 7 ∨ a = 27 := fun a j ha w => by
    rcases w with (w | w) | w
    · exact Or.inl w
    · exact absurd w (dSc_no m1.2.2.2.2.2.2.1 ha)
    · exact Or.inr w
  exact ⟨zCt.ext t f.lx, xC1_fx f (fun a j hr w => by have h4 := m4.1; have := key a j (by omega) w; unfold sSc at this; omega) (fun a j ha w => by rcases w with (w | w) | w; exact absurd w (by unfold sSc; have := m4.1; omega); exact w; exact absurd w (by omega)) m1, xC2_fx f hn (fun a j hr w => by have h4 := m4.1; have := key a j (by omega) w; unfold sSc at this; omega) m2, hv, xC4_fx f hn (fun a j hr w => by have h4 := m4.1; have := key a j (by omega) w; unfold sSc at this; omega) m4, xC5_fx f hn (fun a j hr w => by have h4 := m4.1; have := key a j (by omega) w; unfold sSc at this; omega) m5, xC6_fx f hn (fun a j hr w => by have h4 := m4.1; have := key a j (by omega) w; unfold sSc at this; omega) m6, xC7_fx f hn (fun a j hr w => by have h4 := m4.1; have := key a j (by omega) w; unfold sSc at this; omega) m7, xC8_fx f hn (fun a j hr w => by have h4 := m4.1; have := key a j (by omega) w; unfold sSc at this; omega) m8, xC9_fx f hn (fun a j hr w => by have h4 := m4.1; have := key a j (by omega) w; unfold sSc at this; omega) m9, xC0_fx f hn (fun a j hr w => by have h4 := m4.1; have := key a j (by omega) w; unfold sSc at this; omega) m0⟩
def wxS (np : Nat) (y : gY) (a j : Nat) : Prop := wxSc np y a j ∨ a = 28
theorem XR.upS {h h' : zH} {y : gY} {z : gZ} (m : XR h y z) (f : fx (wxS z.pg.1 y) h h') {v : Nat × Nat} (hv : xC5 h' v) : XR h' y (qS z v) := by
  obtain ⟨t, m1, m2, m3, m4, m5, m6, m7, m8, m9, m0⟩ := m
  have hn : 139 ≤ zn h := m1.1
  have key : ∀ a j, a < 4 ∨ 26 ≤ a ∧ a < 139 → wxS z.pg.1 y a j → sSc y.2.2 a j ∨ a = 28 := fun a j ha w => by
    rcases w with (w | w) | w
    · exact Or.inl w
    · exact absurd w (dSc_no m1.2.2.2.2.2.2.1 ha)
    · exact Or.inr w
  exact ⟨zCt.ext t f.lx, xC1_fx f (fun a j hr w => by have h4 := m4.1; have := key a j (by omega) w; unfold sSc at this; omega) (fun a j ha w => by rcases w with (w | w) | w; exact absurd w (by unfold sSc; have := m4.1; omega); exact w; exact absurd w (by omega)) m1, xC2_fx f hn (fun a j hr w => by have h4 := m4.1; have := key a j (by omega) w; unfold sSc at this; omega) m2, xC3_fx f hn (fun a j hr w => by have h4 := m4.1; have := key a j (by omega) w; unfold sSc at this; omega) m3, xC4_fx f hn (fun a j hr w => by have h4 := m4.1; have := key a j (by omega) w; unfold sSc at this; omega) m4, hv, xC6_fx f hn (fun a j hr w => by have h4 := m4.1; have := key a j (by omega) w; unfold sSc at this; omega) m6, xC7_fx f hn (fun a j hr w => by have h4 := m4.1; have := key a j (by omega) w; unfold sSc at this; omega) m7, xC8_fx f hn (fun a j hr w => by have h4 := m4.1; have := key a j (by omega) w; unfold sSc at this; omega) m8, xC9_fx f hn (fun a j hr w => by have h4 := m4.1; have := key a j (by omega) w; unfold sSc at this; omega) m9, xC0_fx f hn (fun a j hr w => by have h4 := m4.1; have := key a j (by omega) w; unfold sSc at this; omega) m0⟩
def wxL (np : Nat) (y : gY) (a j : Nat) : Prop := wxSc np y a j ∨ a = 1 ∧ j = 9 ∨ 29 ≤ a ∧ a ≤ 32 ∨ a = 48
theorem XR.upL {h h' : zH} {y : gY} {z : gZ} (m : XR h y z) (f : fx (wxL z.pg.1 y) h h') {v : Nat × (Nat → List Nat)} (hv : xC6 h' v) : XR h' y (qL z v) := by
  obtain ⟨t, m1, m2, m3, m4, m5, m6, m7, m8, m9, m0⟩ := m
  have hn : 139 ≤ zn h := m1.1
  have key : ∀ a j, a < 4 ∨ 26 ≤ a ∧ a < 139 → wxL z.pg.1 y a j → sSc y.2.2 a j ∨ a = 1 ∧ j = 9 ∨ 29 ≤ a ∧ a ≤ 32 ∨ a = 48 := fun a j ha w => by
    rcases w with (w | w) | w
    · exact Or.inl w
    · exact absurd w (dSc_no m1.2.2.2.2.2.2.1 ha)
    · exact Or.inr w
  exact ⟨zCt.ext t f.lx, xC1_fx f (fun a j hr w => by have h4 := m4.1; have := key a j (by omega) w; unfold sSc at this; omega) (fun a j ha w => by rcases w with (w | w) | w; exact absurd w (by unfold sSc; have := m4.1; omega); exact w; exact absurd w (by omega)) m1, xC2_fx f hn (fun a j hr w => by have h4 := m4.1; have := key a j (by omega) w; unfold sSc at this; omega) m2, xC3_fx f hn (fun a j hr w => by have h4 := m4.1; have := key a j (by omega) w; unfold sSc at this; omega) m3, xC4_fx f hn (fun a j hr w => by have h4 := m4.1; have := key a j (by omega) w; unfold sSc at this; omega) m4, xC5_fx f hn (fun a j hr w => by have h4 := m4.1; have := key a j (by omega) w; unfold sSc at this; omega) m5, hv, xC7_fx f hn (fun a j hr w => by have h4 := m4.1; have := key a j (by omega) w; unfold sSc at this; omega) m7, xC8_fx f hn (fun a j hr w => by have h4 := m4.1; have := key a j (by omega) w; unfold sSc at this; omega) m8, xC9_fx f hn (fun a j hr w => by have h4 := m4.1; have := key a j (by omega) w; unfold sSc at this; omega) m9, xC0_fx f hn (fun a j hr w => by have h4 := m4.1; have := key a j (by omega) w; unfold sSc at this; omega) m0⟩
def wxM (np : Nat) (y : gY) (a j : Nat) : Prop := wxSc np y a j ∨ 64 ≤ a ∧ a ≤ 91
theorem XR.upM {h h' : zH} {y : gY} {z : gZ} (m : XR h y z) (f : fx (wxM z.pg.1 y) h h') {v : Nat → gM} (hv : xC7 h' y.1 v) : XR h' y (qM z v) := by
  obtain ⟨t, m1, m2, m3, m4, m5, m6, m7, m8, m9, m0⟩ := m
  have hn : 139 ≤ zn h := m1.1
  have key : ∀ a j, a < 4 ∨ 26 ≤ a ∧ a < 139 → wxM z.pg.1 y a j → sSc y.2.2 a j ∨ 64 ≤ a ∧ a ≤ 91 := fun a j ha w => by
    rcases w with (w | w) | w
    · exact Or.inl w
    · exact absurd w (dSc_no m1.2.2.2.2.2.2.1 ha)
    · exact Or.inr w
  exact ⟨zCt.ext t f.lx, xC1_fx f (fun a j hr w => by have h4 := m4.1; have := key a j (by omega) w; unfold sSc at this; omega) (fun a j ha w => by rcases w with (w | w) | w; exact absurd w (by unfold sSc; have := m4.1; omega); exact w; exact absurd w (by omega)) m1, xC2_fx f hn (fun a j hr w => by have h4 := m4.1; have := key a j (by omega) w; unfold sSc at this; omega) m2, xC3_fx f hn (fun a j hr w => by have h4 := m4.1; have := key a j (by omega) w; unfold sSc at this; omega) m3, xC4_fx f hn (fun a j hr w => by have h4 := m4.1; have := key a j (by omega) w; unfold sSc at this; omega) m4, xC5_fx f hn (fun a j hr w => by have h4 := m4.1; have := key a j (by omega) w; unfold sSc at this; omega) m5, xC6_fx f hn (fun a j hr w => by have h4 := m4.1; have := key a j (by omega) w; unfold sSc at this; omega) m6, hv, xC8_fx f hn (fun a j hr w => by have h4 := m4.1; have := key a j (by omega) w; unfold sSc at this; omega) m8, xC9_fx f hn (fun a j hr w => by have h4 := m4.1; have := key a j (by omega) w; unfold sSc at this; omega) m9, xC0_fx f hn (fun a j hr w => by have h4 := m4.1; have := key a j (by omega) w; unfold sSc at this; omega) m0⟩
def wxA (np : Nat) (y : gY) (a j : Nat) : Prop := wxSc np y a j ∨ a = 1 ∧ j = 19
theorem XR.upA {h h' : zH} {y : gY} {z : gZ} (m : XR h y z) (f : fx (wxA z.pg.1 y) h h') {v : Nat} (hv : xC8 h' v) : XR h' y (qA z v) := by
  obtain ⟨t, m1, m2, m3, m4, m5, m6, m7, m8, m9, m0⟩ := m
  have hn : 139 ≤ zn h := m1.1
  have key : ∀ a j, a < 4 ∨ 26 ≤ a ∧ a < 139 → wxA z.pg.1 y a j → sSc y.2.2 a j ∨ a = 1 ∧ j = 19 := fun a j ha w => by
    rcases w with (w | w) | w
    · exact Or.inl w
    · exact absurd w (dSc_no m1.2.2.2.2.2.2.1 ha)
    · exact Or.inr w
  exact ⟨zCt.ext t f.lx, xC1_fx f (fun a j hr w => by have h4 := m4.1; have := key a j (by omega) w; unfold sSc at this; omega) (fun a j ha w => by rcases w with (w | w) | w; exact absurd w (by unfold sSc; have := m4.1; omega); exact w; exact absurd w (by omega)) m1, xC2_fx f hn (fun a j hr w => by have h4 := m4.1; have := key a j (by omega) w; unfold sSc at this; omega) m2, xC3_fx f hn (fun a j hr w => by have h4 := m4.1; have := key a j (by omega) w; unfold sSc at this; omega) m3, xC4_fx f hn (fun a j hr w => by have h4 := m4.1; have := key a j (by omega) w; unfold sSc at this; omega) m4, xC5_fx f hn (fun a j hr w => by have h4 := m4.1; have := key a j (by omega) w; unfold sSc at this; omega) m5, xC6_fx f hn (fun a j hr w => by have h4 := m4.1; have := key a j (by omega) w; unfold sSc at this; omega) m6, xC7_fx f hn (fun a j hr w => by have h4 := m4.1; have := key a j (by omega) w; unfold sSc at this; omega) m7, hv, xC9_fx f hn (fun a j hr w => by have h4 := m4.1; have := key a j (by omega) w; unfold sSc at this; omega) m9, xC0_fx f hn (fun a j hr w => by have h4 := m4.1; have := key a j (by omega) w; unfold sSc at this; omega) m0⟩
def wxK (np : Nat) (y : gY) (a j : Nat) : Prop := wxSc np y a j ∨ a = 1 ∧ 20 ≤ j ∧ j ≤ 22
theorem XR.upK {h h' : zH} {y : gY} {z : gZ} (m : XR h y z) (f : fx (wxK z.pg.1 y) h h') {v : Nat × Nat × Nat} (hv : xC9 h' v) : XR h' y (qK z v) := by
  obtain ⟨t, m1, m2, m3, m4, m5, m6, m7, m8, m9, m0⟩ := m
  have hn : 139 ≤ zn h := m1.1
  have key : ∀ a j, a < 4 ∨ 26 ≤ a ∧ a < 139 → wxK z.pg.1 y a j → sSc y.2.2 a j ∨ a = 1 ∧ 20 ≤ j ∧ j ≤ 22 := fun a j ha w => by
    rcases w with (w | w) | w
    · exact Or.inl w
    · exact absurd w (dSc_no m1.2.2.2.2.2.2.1 ha)
    · exact Or.inr w
  exact ⟨zCt.ext t f.lx, xC1_fx f (fun a j hr w => by have h4 := m4.1; have := key a j (by omega) w; unfold sSc at this; omega) (fun a j ha w => by rcases w with (w | w) | w; exact absurd w (by unfold sSc; have := m4.1; omega); exact w; exact absurd w (by omega)) m1, xC2_fx f hn (fun a j hr w => by have h4 := m4.1; have := key a j (by omega) w; unfold sSc at this; omega) m2, xC3_fx f hn (fun a j hr w => by have h4 := m4.1; have := key a j (by omega) w; unfold sSc at this; omega) m3, xC4_fx f hn (fun a j hr w => by have h4 := m4.1; have := key a j (by omega) w; unfold sSc at this; omega) m4, xC5_fx f hn (fun a j hr w => by have h4 := m4.1; have := key a j (by omega) w; unfold sSc at this; omega) m5, xC6_fx f hn (fun a j hr w => by have h4 := m4.1; have := key a j (by omega) w; unfold sSc at this; omega) m6, xC7_fx f hn (fun a j hr w => by have h4 := m4.1; have := key a j (by omega) w; unfold sSc at this; omega) m7, xC8_fx f hn (fun a j hr w => by have h4 := m4.1; have := key a j (by omega) w; unfold sSc at this; omega) m8, hv, xC0_fx f hn (fun a j hr w => by have h4 := m4.1; have := key a j (by omega) w; unfold sSc at this; omega) m0⟩
def wxF (np : Nat) (y : gY) (a j : Nat) : Prop := wxSc np y a j ∨ a = 1 ∧ j = 23
theorem XR.upF {h h' : zH} {y : gY} {z : gZ} (m : XR h y z) (f : fx (wxF z.pg.1 y) h h') {v : Nat} (hv : xC0 h' v) : XR h' y (qF z v) := by
  obtain ⟨t, m1, m2, m3, m4, m5, m6, m7, m8, m9, m0⟩ := m
  have hn : 139 ≤ zn h := m1.1
  have key : ∀ a j, a < 4 ∨ 26 ≤ a ∧ a < 139 → wxF z.pg.1 y a j → sSc y.2.2 a j ∨ a = 1 ∧ j = 23 := fun a j ha w => by
    rcases w with (w | w) | w
    · exact Or.inl w
    · exact absurd w (dSc_no m1.2.2.2.2.2.2.1 ha)
    · exact Or.inr w
  exact ⟨zCt.ext t f.lx, xC1_fx f (fun a j hr w => by have h4 := m4.1; have := key a j (by omega) w; unfold sSc at this; omega) (fun a j ha w => by rcases w with (w | w) | w; exact absurd w (by unfold sSc; have := m4.1; omega); exact w; exact absurd w (by omega)) m1, xC2_fx f hn (fun a j hr w => by have h4 := m4.1; have := key a j (by omega) w; unfold sSc at this; omega) m2, xC3_fx f hn (fun a j hr w => by have h4 := m4.1; have := key a j (by omega) w; unfold sSc at this; omega) m3, xC4_fx f hn (fun a j hr w => by have h4 := m4.1; have := key a j (by omega) w; unfold sSc at this; omega) m4, xC5_fx f hn (fun a j hr w => by have h4 := m4.1; have := key a j (by omega) w; unfold sSc at this; omega) m5, xC6_fx f hn (fun a j hr w => by have h4 := m4.1; have := key a j (by omega) w; unfold sSc at this; omega) m6, xC7_fx f hn (fun a j hr w => by have h4 := m4.1; have := key a j (by omega) w; unfold sSc at this; omega) m7, xC8_fx f hn (fun a j hr w => by have h4 := m4.1; have := key a j (by omega) w; unfold sSc at this; omega) m8, xC9_fx f hn (fun a j hr w => by have h4 := m4.1; have := key a j (by omega) w; unfold sSc at this; omega) m9, hv⟩
theorem XR.scr {h h' : zH} {y : gY} {z : gZ} (m : XR h y z) (f : fx (wxSc z.pg.1 y) h h') : XR h' y z := m.upF (f.mono (fun _ _ w => Or.inl w)) (xC0_fx f m.n (fun a j ha w => by
  rcases w with w | w
  · have h4 := m.re.1; unfold sSc at w; omega
  · exact dSc_no m.pg.2.2.2.2.2.2.1 (by omega) w) m.fi)
