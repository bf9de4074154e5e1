/-! the exchange reads: read, feed, end, run -/
set_option maxRecDepth 100000
section XRE
variable {sk N a b : Nat} {V D : Nat → Nat → Prop} {K : zH → List Nat → Prop} {g : gP}
/-- what is fixed while a reader at a reads a page at b into a sink -/
def rdC (sk N a b : Nat) (V D : Nat → Nat → Prop) (K : zH → List Nat → Prop) (g : gP) : Prop := Snk sk N V D K ∧ (36 ≤ a ∧ a + 2 ≤ 91) ∧ (139 ≤ b ∨ b = 4) ∧ (∀ c j, D c j → (c = a → j = 4 ∨ j = 5) ∧ c ≠ a + 2) ∧ (∀ h, zXx h 1 → zRd h a 1) ∧ pgR g
/-- what holds of the heap while it reads -/
def rdH (h : zH) (a b : Nat) (g : gP) (sg fed : Nat) : Prop := zXx h 1 ∧ xPg h b g ∧ b + sz g ≤ zn h ∧ zI h 28 0 = nI sg ∧ zI h a 9 = nI fed
theorem rdC.keep (C : rdC sk N a b V D K g) {h h1 : zH} {sg fed : Nat} (H : rdH h a b g sg fed) (f : fr (wRa V a b) h h1) : rdH h1 a b g sg fed := by
  obtain ⟨S, ha, hb, hD, hrd, pr⟩ := C
  obtain ⟨st, pg, hbn, hsg, hfed⟩ := H
  have szb := sz_le g
  have nw : ∀ c j, V c j → 36 ≤ c ∧ c ≤ 91 ∧ (c = a → j = 4 ∨ j = 5) ∧ c ≠ a + 2 := fun c j hv => ⟨(S.2.2.2 c j (S.2.2.1 c j hv)).1, (S.2.2.2 c j (S.2.2.1 c j hv)).2, (hD c j (S.2.2.1 c j hv)).1, (hD c j (S.2.2.1 c j hv)).2⟩
  refine ⟨zCt.ext st f.lx, xPg_fx f.fx hbn (fun i j hi hw => ?_) pg, by rw [f.n]; exact hbn, ?_, ?_⟩
  · rcases hw with hw | hw
    · have := nw _ _ hw; omega
    · unfold wRr at hw; omega
  · rw [f.I]; exact hsg
    intro hw; rcases hw with hw | hw
    · have := nw _ _ hw; omega
    · unfold wRr at hw; omega
  · rw [f.I]; exact hfed
    intro hw; rcases hw with hw | hw
    · have := nw _ _ hw; omega
    · unfold wRr at hw; omega
theorem x_read {h : zH} {o l : List Nat} {rule s p f sg fed : Nat} {x1 : Int32} {last : Bool} (C : rdC sk N a b V D K g) (H : rdH h a b g sg fed) (R : xRd h a b sk rule s p l f) (hK : K h o) (hl4 : l.length ≤ 4) (hB : isB l) (hs : s < 4) (hp : p ≤ 4) (ho : o.length + 2 * l.length < N) (hr : rule ≤ 3) (hsg2 : sg ≤ 1114111) (hf2 : l.length ≤ fed) (hx : x1 = if last then 1 else 0) :
    zw (fX5_read h a 1 x1) (fun r => ((gRead g rule sg last s p l o f).1 ≠ 1 → ∃ h', r = (.inl none, h') ∧ xRd h' a b sk rule (gRead g rule sg last s p l o f).2.1 (gRead g rule sg last s p l o f).2.2.1 (gRead g rule sg last s p l o f).2.2.2.1 (gRead g rule sg last s p l o f).2.2.2.2.2 ∧ K h' (gRead g rule sg last s p l o f).2.2.2.2.1 ∧ fr (wRa V a b) h h') ∧ ((gRead g rule sg last s p l o f).1 = 1 → ∃ h', r = (.inr 2, h') ∧ xRef h' a fed (gRead g rule sg last s p l o f).2.1 (gRead g rule sg last s p l o f).2.2.2.1 ∧ K h' (gRead g rule sg last s p l o f).2.2.2.2.1 ∧ fr (wRx V a b) h h')) := by
  have C' := C
  obtain ⟨S, ha, hb, hD, hrd, pr⟩ := C
  have hx0 : x1 = 0 ↔ last = false := by
    rw [hx]
    cases last with
    | true => simp
    | false => simp
  unfold fX5_read
  generalize hFin : gRead g rule sg last s p l o f = FIN
  refine zw_for (fun i h1 => ∃ s p l1 o f, i + l1.length ≤ l.length ∧ xRd h1 a b sk rule s p l1 f ∧ K h1 o ∧ isB l1 ∧ s < 4 ∧ p ≤ 4 ∧ o.length + 2 * l1.length < N ∧ rdH h1 a b g sg fed ∧ fr (wRa V a b) h h1 ∧ FIN = gRead g rule sg last s p l1 o f) l.length ?_ ⟨s, p, l, o, f, by omega, R, hK, hB, hs, hp, ho, H, fr.refl _ _, hFin.symm⟩
  rintro i h1 hi ⟨s, p, l1, o, f, hil, R1, K1, B1, hs1, hp1, ho1, H1, f1, hE⟩
  by_cases hl : l1 = []
  · subst hl
    unfold fX5_read_L0
    rw [R1.2.2.2.2.2.1, if_pos (by exact Int32.le_refl _), zw_some]
    rw [gRead_nil] at hE
    rw [hE]
    exact ⟨fun _ => ⟨h1, rfl, R1, K1, f1⟩, fun q => by cases q⟩
  have hlen : 0 < l1.length := List.length_pos_iff.mpr hl
  refine (x_rd1 (x1 := x1) S ha hb hD hrd pr H1.1 H1.2.1 H1.2.2.1 R1 K1 hl (by omega) B1 hs1 hp1 (by omega) hr H1.2.2.2.1 hsg2 H1.2.2.2.2 (by omega)).mono ?_
  rintro r ⟨w1, w2, w3⟩
  by_cases c1 : (gLk g s p l1).1 = 1 ∧ x1 = 0
  · obtain ⟨h', rfl, R2, K2, f2⟩ := w1 c1
    have hlast := hx0.mp c1.2
    subst hlast
    rw [gRead_wait hl c1.1] at hE
    rw [hE]
    exact ⟨fun _ => ⟨h', rfl, R2, K2, f1.trans f2⟩, fun q => by cases q⟩
  have c1' : ¬ ((gLk g s p l1).1 = 1 ∧ last = false) := fun q => c1 ⟨q.1, hx0.mpr q.2⟩
  by_cases rf : (gLk g s p l1).1 ≤ 1 ∧ rule = 0
  · obtain ⟨h', rfl, R2, K2, f2⟩ := w2 c1 rf
    have r0 := rf.2
    subst r0
    rw [gRead_ref hl rf.1 c1'] at hE
    rw [hE]
    exact ⟨fun q => absurd rfl q, fun _ => ⟨h', rfl, R2, K2, (f1.mono fun c j hw => Or.inl hw).trans f2⟩⟩
  · obtain ⟨h', rfl, R2, K2, f2⟩ := w3 c1 rf
    have nn := gR1_n (rule := rule) (sg := sg) (st := s) (pd := p) pr.1 B1 hl
    have wf1 := gR1_wf (rule := rule) (sg := sg) (l := l1) pr.1 hs1 hp1
    rw [gRead_step pr.1 B1 hl rf c1'] at hE
    refine ⟨by omega, _, _, _, _, _, ?_, R2, K2, B1.drop _, wf1.1, wf1.2.1, ?_, C'.keep H1 f2, f1.trans f2, hE⟩
    · rw [List.length_drop]; omega
    · rw [List.length_append, List.length_drop]; have := wf1.2.2.1; omega
/-- a byte is fed -/
theorem x_feed3 {h : zH} {o l : List Nat} {rule s p f sg fed v : Nat} (C : rdC sk N a b V D K g) (H : rdH h a b g sg fed) (R : xRd h a b sk rule s p l f) (hK : K h o) (hl3 : l.length ≤ 3) (hB : isB l) (hv : v < 256) (hs : s < 4) (hp : p ≤ 4) (ho : o.length + 2 * l.length + 2 < N) (hr : rule ≤ 3) (hsg2 : sg ≤ 1114111) (hf2 : l.length ≤ fed) :
    zw (fX4_feed_3 h a 1 (nI v)) (fun r => ((gRead g rule sg false s p (l ++ [v]) o f).1 ≠ 1 → ∃ h', r = (.inl none, h') ∧ xRd h' a b sk rule (gRead g rule sg false s p (l ++ [v]) o f).2.1 (gRead g rule sg false s p (l ++ [v]) o f).2.2.1 (gRead g rule sg false s p (l ++ [v]) o f).2.2.2.1 (gRead g rule sg false s p (l ++ [v]) o f).2.2.2.2.2 ∧ K h' (gRead g rule sg false s p (l ++ [v]) o f).2.2.2.2.1 ∧ rdH h' a b g sg (fed + 1) ∧ fr (fun c j => wRa V a b c j ∨ c = a ∧ j = 9) h h') ∧ ((gRead g rule sg false s p (l ++ [v]) o f).1 = 1 → ∃ h', r = (.inr 2, h') ∧ xRef h' a (fed + 1) (gRead g rule sg false s p (l ++ [v]) o f).2.1 (gRead g rule sg false s p (l ++ [v]) o f).2.2.2.1 ∧ K h' (gRead g rule sg false s p (l ++ [v]) o f).2.2.2.2.1 ∧ fr (fun c j => wRx V a b c j ∨ c = a ∧ j = 9) h h')) := by
  have C' := C
  obtain ⟨S, ha, hb, hD, hrd, pr⟩ := C
  obtain ⟨st, pg, hbn, hsg, hfed⟩ := H
  obtain ⟨r1, r2, r3, r4, r5, r6, r7, r8⟩ := R
  have szb := sz_le g
  unfold fX4_feed_3
  rw [zw_let, hfed, nI_1]
  unfold fX5_step
  rw [eI, if_neg (by omega), r6, zck_pos (vin (show l.length < 4 by omega) (by omega)), nI_clamp (by omega)]
  have f0 : fr (fun c j => c = a ∧ (j = 8 ∨ j = 9) ∨ c = a + 2) h (zsI (zsI (zsI h a 9 (nI (fed + 1))) (a + 2) l.length (nI v)) a 8 (nI (l.length + 1))) := (((fr.refl _ h).sI (by omega) _).sI (by omega) _).sI (by omega) _
  have x8 : zI (zsI (zsI h a 9 (nI (fed + 1))) (a + 2) l.length (nI v)) a 8 = nI l.length := by rw [eI, if_neg (by omega), eI, if_neg (by omega)]; exact r6
  show zw (zxv (zxv (fX5_read (zsI (zsI (zsI h a 9 (nI (fed + 1))) (a + 2) l.length (nI v)) a 8 (zI (zsI (zsI h a 9 (nI (fed + 1))) (a + 2) l.length (nI v)) a 8 + 1)) a 1 0) _ _) _ _) _
  rw [x8, nI_1]
  have R0 : xRd (zsI (zsI (zsI h a 9 (nI (fed + 1))) (a + 2) l.length (nI v)) a 8 (nI (l.length + 1))) a b sk rule s p (l ++ [v]) f := by
    refine ⟨r1, r2, ?_, ?_, ?_, ?_, fun i hi => ?_, ?_⟩
    · rw [f0.I (by omega)]; exact r3
    · rw [f0.I (by omega)]; exact r4
    · rw [f0.I (by omega)]; exact r5
    · rw [eIs, List.length_append]; rfl
    · rw [List.length_append] at hi
      have hi' : i < l.length + 1 := hi
      by_cases e : i = l.length
      · subst e
        rw [eI, if_neg (by omega), eIs]
        exact congrArg nI (gD_e l v).symm
      · rw [eI, if_neg (by omega), eI, if_neg (by omega), eI, if_neg (by omega), bt_app (by omega)]
        exact r7 i (by omega)
    · rw [f0.I (by omega)]; exact r8
  have H0 : rdH (zsI (zsI (zsI h a 9 (nI (fed + 1))) (a + 2) l.length (nI v)) a 8 (nI (l.length + 1))) a b g sg (fed + 1) := by
    refine ⟨zCt.ext st f0.lx, xPg_fx f0.fx hbn (fun i j hi hw => by omega) pg, hbn, ?_, ?_⟩
    · rw [f0.I (by omega)]; exact hsg
    · rw [eI, if_neg (by omega), eI, if_neg (by omega), eIs]
  have K0 : K (zsI (zsI (zsI h a 9 (nI (fed + 1))) (a + 2) l.length (nI v)) a 8 (nI (l.length + 1))) o := S.2.1 h _ o _ f0 (fun c j hd hw => by
    have d1 := hD c j hd
    omega) hK
  generalize zsI (zsI (zsI h a 9 (nI (fed + 1))) (a + 2) l.length (nI v)) a 8 (nI (l.length + 1)) = h1 at *
  have hBv : isB (l ++ [v]) := hB.app (fun k hk => by
    have : k = 0 := by simp at hk; exact hk
    subst this
    exact hv)
  obtain ⟨r, er, k1, k2⟩ := x_read (last := false) (x1 := 0) C' H0 R0 K0 (by rw [List.length_append]; show l.length + 1 ≤ 4; omega) hBv hs hp (by rw [List.length_append]; show o.length + 2 * (l.length + 1) < N; omega) hr hsg2 (by rw [List.length_append]; show l.length + 1 ≤ fed + 1; omega) rfl
  rw [er]
  by_cases q : (gRead g rule sg false s p (l ++ [v]) o f).1 = 1
  · obtain ⟨h', rfl, x1, x2, x3⟩ := k2 q
    rw [zxv_e, zxv_e, zw_some]
    exact ⟨fun w => absurd q w, fun _ => ⟨h', rfl, x1, x2, (f0.mono fun c j hw => by unfold wRx wRa wRr; omega).trans (x3.mono fun c j hw => Or.inl hw)⟩⟩
  · obtain ⟨h', rfl, x1, x2, x3⟩ := k1 q
    rw [zxv_n, zxv_n, zw_some]
    exact ⟨fun _ => ⟨h', rfl, x1, x2, C'.keep H0 x3, (f0.mono fun c j hw => by unfold wRa wRr; omega).trans (x3.mono fun c j hw => Or.inl hw)⟩, fun w => absurd w q⟩
/-- all is read -/
theorem x_end3 {h : zH} {o l : List Nat} {rule s p f sg fed : Nat} (C : rdC sk N a b V D K g) (H : rdH h a b g sg fed) (R : xRd h a b sk rule s p l f) (hK : K h o) (hl3 : l.length ≤ 3) (hB : isB l) (hs : s < 4) (hp : p ≤ 4) (ho : o.length + 2 * l.length < N) (hr : rule ≤ 3) (hsg2 : sg ≤ 1114111) (hf2 : l.length ≤ fed) :
    zw (fX4_end_3 h a 1) (fun r => ((gRead g rule sg true s p l o f).1 ≠ 1 → ∃ h', r = (.inl none, h') ∧ xRd h' a b sk rule (gRead g rule sg true s p l o f).2.1 4 [] (gRead g rule sg true s p l o f).2.2.2.2.2 ∧ zI h' a 10 = 1 ∧ K h' (gRead g rule sg true s p l o f).2.2.2.2.1 ∧ zI h' a 9 = nI fed ∧ fr (fun c j => wRa V a b c j ∨ c = a ∧ j = 10) h h') ∧ ((gRead g rule sg true s p l o f).1 = 1 → ∃ h', r = (.inr 2, h') ∧ xRef h' a fed (gRead g rule sg true s p l o f).2.1 (gRead g rule sg true s p l o f).2.2.2.1 ∧ K h' (gRead g rule sg true s p l o f).2.2.2.2.1 ∧ fr (wRx V a b) h h')) := by
  have C' := C
  obtain ⟨S, ha, hb, hD, hrd, pr⟩ := C
  obtain ⟨r, er, k1, k2⟩ := x_read (last := true) (x1 := 1) C' H R hK (by omega) hB hs hp ho hr hsg2 hf2 rfl
  unfold fX4_end_3 fX5_last
  rw [er]
  by_cases q : (gRead g rule sg true s p l o f).1 = 1
  · obtain ⟨h', rfl, x1, x2, x3⟩ := k2 q
    rw [zxv_e, zxv_e, zw_some]
    exact ⟨fun w => absurd q w, fun _ => ⟨h', rfl, x1, x2, x3⟩⟩
  · obtain ⟨h', rfl, ⟨r1, r2, r3, r4, r5, r6, r7, r8⟩, x2, x3⟩ := k1 q
    rw [zxv_n, zxv_n, zw_let, zw_let, zw_let, zw_some]
    have H1 := C'.keep H x3
    have f4 : fr (fun c j => c = a ∧ (j = 7 ∨ j = 8 ∨ j = 10)) h' (zsI (zsI (zsI h' a 10 1) a 8 0) a 7 4) := (((fr.refl _ h').sI (by omega) _).sI (by omega) _).sI (by omega) _
    refine ⟨fun _ => ⟨_, rfl, ⟨r1, r2, ?_, ?_, ?_, ?_, fun i hi => absurd hi (Nat.not_lt_zero _), ?_⟩, ?_, ?_, ?_, (x3.mono fun c j hw => Or.inl hw).trans (f4.mono fun c j hw => by unfold wRa wRr; omega)⟩, fun w => absurd w q⟩
    · rw [f4.I (by omega)]; exact r3
    · rw [f4.I (by omega)]; exact r4
    · rw [eIs]; rfl
    · rw [eI, if_neg (by omega), eIs]; rfl
    · rw [f4.I (by omega)]; exact r8
    · rw [eI, if_neg (by omega), eI, if_neg (by omega), eIs]
    · exact S.2.1 h' _ _ _ f4 (fun c j hd hw => by
        have d1 := hD c j hd
        omega) x2
    · rw [f4.I (by omega)]; exact H1.2.2.2.2
end XRE
