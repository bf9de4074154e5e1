/-! the exchange reads all: run, decode -/
set_option maxRecDepth 100000
theorem nI_ex (x : Int32) : ∃ n, x = nI n := ⟨x.toBitVec.toNat, by
  apply Int32.toBitVec_inj.mp
  show x.toBitVec = BitVec.ofNat 32 x.toBitVec.toNat
  rw [BitVec.ofNat_toNat, BitVec.setWidth_eq]⟩
theorem gRun_sh {g : gP} {rule sg : Nat} {last : Bool} : ∀ (n st pd : Nat) (l o : List Nat) (f : Nat), gRun g rule sg last n st pd l o f = ((gRun g rule sg last n st pd l o 0).1, (gRun g rule sg last n st pd l o 0).2.1, (gRun g rule sg last n st pd l o 0).2.2.1, (gRun g rule sg last n st pd l o 0).2.2.2.1, (gRun g rule sg last n st pd l o 0).2.2.2.2.1, f + (gRun g rule sg last n st pd l o 0).2.2.2.2.2) := by
  intro n
  induction n with
  | zero => intro st pd l o f; rfl
  | succ n ih =>
    intro st pd l o f
    simp only [gRun]
    split
    · rfl
    · split
      · rfl
      · split
        · rfl
        · rw [ih _ _ _ _ (f + (gR1 g rule sg st pd l).2.2.2.2), ih _ _ _ _ (0 + (gR1 g rule sg st pd l).2.2.2.2)]
          dsimp only
          rw [Nat.zero_add, Nat.add_assoc]
theorem gRead_sh (g : gP) (rule sg : Nat) (last : Bool) (st pd : Nat) (l o : List Nat) (f : Nat) : gRead g rule sg last st pd l o f = ((gRead g rule sg last st pd l o 0).1, (gRead g rule sg last st pd l o 0).2.1, (gRead g rule sg last st pd l o 0).2.2.1, (gRead g rule sg last st pd l o 0).2.2.2.1, (gRead g rule sg last st pd l o 0).2.2.2.2.1, f + (gRead g rule sg last st pd l o 0).2.2.2.2.2) := gRun_sh _ _ _ _ _ _
theorem isB.take {l : List Nat} (h : isB l) (k : Nat) : isB (l.take k) := by
  intro i hi
  rw [List.length_take] at hi
  have := h i (by omega)
  unfold bt at this ⊢
  rw [List.getD_eq_getElem?_getD] at this ⊢
  rw [List.getElem?_take, if_pos (by omega)]
  exact this
theorem take_s {l : List Nat} {k : Nat} (h : k < l.length) : l.take (k + 1) = l.take k ++ [bt l k] := by
  rw [List.take_succ]
  unfold bt
  rw [List.getD_eq_getElem?_getD, List.getElem?_eq_getElem h]
  rfl
def wRun (V : Nat → Nat → Prop) (a b c j : Nat) : Prop := V c j ∨ c = a ∨ c = a + 2 ∨ c = b ∧ j ≤ 2
def wRuX (V : Nat → Nat → Prop) (a b c j : Nat) : Prop := wRun V a b c j ∨ c = 1 ∧ j = 19 ∨ c = 2
section XRN
variable {sk N a b : Nat} {V D : Nat → Nat → Prop} {K : zH → List Nat → Prop} {g : gP}
theorem x_run3 {h : zH} {B : List Nat} {rule sg f0 : Nat} (C : rdC sk N a b V D K g) (st : zXx h 1) (pg : xPg h b g) (hbn : b + sz g ≤ zn h) (hsg : zI h 28 0 = nI sg) (hsg2 : sg ≤ 1114111) (hK : K h []) (hDa : ∀ c j, D c j → c ≠ a) (hf0 : zI h a 13 = nI f0) (hr : rule ≤ 3) (hB : isB B) (hBl : B.length ≤ 1000) (hrow : rw h 26 B) (hN : 2002 < N) :
    zw (fX0_run_3 h 1 a b (nI rule) 26 (nI B.length) sk) (fun r => ((gRead g rule sg true 0 4 B [] f0).1 ≠ 1 → ∃ h', r = (.inl none, h') ∧ K h' (gRead g rule sg true 0 4 B [] f0).2.2.2.2.1 ∧ zI h' a 13 = nI (gRead g rule sg true 0 4 B [] f0).2.2.2.2.2 ∧ fr (wRun V a b) h h') ∧ ((gRead g rule sg true 0 4 B [] f0).1 = 1 → ∃ h', r = (.inr 2, h') ∧ zI h' 1 19 = nI (B.length - (gRead g rule sg true 0 4 B [] f0).2.2.2.1.length) ∧ zI h' 2 6 = -9 ∧ fr (wRuX V a b) h h')) := by
  have C' := C
  obtain ⟨S, ha, hb, hD, hrd, pr⟩ := C
  have rd := hrd h st
  obtain ⟨t1, t2, t3, t4, t5⟩ := zRd.T rd
  have hD9 := S.2.2.2
  have hVD := S.2.2.1
  have szb := sz_le g
  have t26 : zT h 26 = (100, 1000) := x_T st 25 rfl
  have nV : ∀ c j, V c j → 36 ≤ c ∧ c ≤ 91 ∧ c ≠ a ∧ c ≠ a + 2 := fun c j hv => ⟨(hD9 c j (hVD c j hv)).1, (hD9 c j (hVD c j hv)).2, hDa c j (hVD c j hv), (hD c j (hVD c j hv)).2⟩
  unfold fX0_run_3
  rw [zw_b1]
  refine (x_beg3 (h := h) (o := a) (p := b) (s := sk) (r := nI rule) (by rw [t1]; rfl) (by rw [t1]; rfl) _ ?_ 1).1
  intro h1 f1 a1 a2 a3 a4 a5 a6 a7 a8 a9 a10
  have fW1 : fr (wRun V a b) h h1 := f1.mono fun c j hw => by unfold wRun; omega
  have K1 : K h1 [] := S.2.1 h h1 [] _ f1 (fun c j hd hw => hDa c j hd hw.1) hK
  have H1 : rdH h1 a b g sg 0 := ⟨zCt.ext st f1.lx, xPg_fx f1.fx hbn (fun i j hi hw => by omega) pg, by rw [f1.n]; exact hbn, (f1.I (by omega)).trans hsg, a9⟩
  have R1 : xRd h1 a b sk rule 0 4 [] f0 := ⟨a1, a2, a3, a6, a7, a8, fun i hi => absurd hi (Nat.not_lt_zero _), (f1.I (by omega)).trans hf0⟩
  refine zw_for (fun i s => s.2 = nI i ∧ i ≤ B.length ∧ (gRead g rule sg false 0 4 (B.take i) [] f0).1 ≠ 1 ∧ xRd s.1 a b sk rule (gRead g rule sg false 0 4 (B.take i) [] f0).2.1 (gRead g rule sg false 0 4 (B.take i) [] f0).2.2.1 (gRead g rule sg false 0 4 (B.take i) [] f0).2.2.2.1 (gRead g rule sg false 0 4 (B.take i) [] f0).2.2.2.2.2 ∧ K s.1 (gRead g rule sg false 0 4 (B.take i) [] f0).2.2.2.2.1 ∧ rdH s.1 a b g sg i ∧ fr (wRun V a b) h s.1) B.length ?_ ⟨rfl, Nat.zero_le _, (by rw [List.take_zero, gRead_nil]; intro q; cases q), by rw [List.take_zero, gRead_nil]; exact R1, by rw [List.take_zero, gRead_nil]; exact K1, H1, fW1⟩
  rintro i ⟨h2, x⟩ hi ⟨rfl, hiB, hno, R2, K2, H2, f2⟩
  dsimp only at R2 K2 H2 f2 ⊢
  have hBi := hB.take i
  obtain ⟨q1, q2, q3, q4, q5, q6⟩ := gRead_rest (rule := rule) (sg := sg) pr.1 (B.take i).length 0 4 (B.take i) [] f0 (Nat.le_refl _) hBi (by omega) (by omega)
  have q6 := q6 hno
  have lt : (B.take i).length = i := by rw [List.length_take]; omega
  rw [lt] at q4 q5
  have q5' : (gRead g rule sg false 0 4 (B.take i) [] f0).2.2.2.2.1.length + 2 * (gRead g rule sg false 0 4 (B.take i) [] f0).2.2.2.1.length ≤ 2 * i := by
    have : ([] : List Nat).length = 0 := rfl
    omega
  unfold fX0_run_3_L11
  by_cases e : i = B.length
  · subst e
    have app := (gRead_app (last := true) (rule := rule) (sg := sg) pr B.length 0 4 B [] [] f0 (Nat.le_refl _) hB (fun k hk => absurd hk (Nat.not_lt_zero _))).1
    rw [List.take_length] at *
    have app := app hno
    rw [List.append_nil, List.append_nil] at app
    rw [if_pos (Int32.le_refl _)]
    obtain ⟨r, er, k1, k2⟩ := x_end3 C' H2 R2 K2 q6 q3 q1 q2 (by omega) hr hsg2 q4
    rw [← app] at k1 k2
    rw [er]
    by_cases q : (gRead g rule sg true 0 4 B [] f0).1 = 1
    · obtain ⟨h', rfl, x1, x2, x3⟩ := k2 q
      rw [zxv_e, zw_some]
      exact ⟨fun w => absurd q w, fun _ => ⟨h', rfl, x1.1, x1.2.1, (f2.mono fun c j hw => Or.inl hw).trans (x3.mono fun c j hw => by
        rcases hw with (hw | hw) | hw
        · exact Or.inl (Or.inl hw)
        · unfold wRr at hw; (try unfold wRuX); unfold wRun; omega
        · (try unfold wRuX); unfold wRun; omega)⟩⟩
    · obtain ⟨h', rfl, x1, x2, x3, x4, x5⟩ := k1 q
      rw [zxv_n, zw_some]
      exact ⟨fun _ => ⟨h', rfl, x3, x1.2.2.2.2.2.2.2, f2.trans (x5.mono fun c j hw => by
        rcases hw with (hw | hw) | hw
        · exact Or.inl hw
        · unfold wRr at hw; unfold wRun; omega
        · unfold wRun; omega)⟩, fun w => absurd w q⟩
  have hi2 : i < B.length := by omega
  have bi := hB i hi2
  have t2 : zT h2 26 = (100, 1000) := by rw [f2.T]; exact t26
  have rr : zI h2 26 i = nI (bt B i) := by
    rw [f2.I]
    · exact hrow i hi2
    · intro hw
      rcases hw with hw | hw
      · have := nV _ _ hw; omega
      · omega
  rw [if_neg (by rw [nI_leI (by omega) (by omega)]; omega), zck_pos (show zAr h2 26 (nI i) from ⟨by rw [t2], by rw [t2]; exact vin (by show i < 1000; omega) (by show 1000 ≤ _; omega)⟩), nI_clamp (by omega), rr]
  obtain ⟨r, er, k1, k2⟩ := x_feed3 C' H2 R2 K2 q6 q3 bi q1 q2 (by omega) hr hsg2 q4
  have hB1 : isB [bt B i] := fun k hk => by
    have : k = 0 := by simp at hk; exact hk
    subst this
    exact bi
  have app := (gRead_app (last := false) (rule := rule) (sg := sg) pr i 0 4 (B.take i) [bt B i] [] f0 (by omega) hBi hB1).1 hno
  rw [← take_s hi2] at app
  rw [← app] at k1 k2
  rw [er]
  by_cases q : (gRead g rule sg false 0 4 (B.take (i + 1)) [] f0).1 = 1
  · obtain ⟨h', rfl, x1, x2, x3⟩ := k2 q
    have appT := (gRead_app (last := true) (rule := rule) (sg := sg) pr (i + 1) 0 4 (B.take (i + 1)) (B.drop (i + 1)) [] f0 (by rw [List.length_take]; omega) (hB.take _) (hB.drop _)).2 q
    rw [List.take_append_drop] at appT
    have lr := (gRead_rest (rule := rule) (sg := sg) pr.1 (B.take (i + 1)).length 0 4 (B.take (i + 1)) [] f0 (Nat.le_refl _) (hB.take _) (by omega) (by omega)).2.2.2.1
    rw [List.length_take] at lr
    rw [zxv_e, zw_some, appT]
    refine ⟨fun w => absurd rfl w, fun _ => ⟨h', rfl, ?_, x1.2.1, (f2.mono fun c j hw => Or.inl hw).trans (x3.mono fun c j hw => by
      rcases hw with ((hw | hw) | hw) | hw
      · exact Or.inl (Or.inl hw)
      · unfold wRr at hw; (try unfold wRuX); unfold wRun; omega
      · (try unfold wRuX); unfold wRun; omega
      · (try unfold wRuX); unfold wRun; omega)⟩⟩
    rw [x1.1]
    show nI _ = nI (B.length - (_ ++ B.drop (i + 1)).length)
    rw [List.length_append, List.length_drop]
    exact congrArg nI (by omega)
  · obtain ⟨h', rfl, x1, x2, x3, x4⟩ := k1 q
    rw [zxv_n, zw_some]
    refine ⟨hi2, by rw [nI_1], by omega, q, x1, x2, x3, f2.trans (x4.mono fun c j hw => by
      rcases hw with (hw | hw) | hw
      · exact Or.inl hw
      · unfold wRr at hw; unfold wRun; omega
      · unfold wRun; omega)⟩
end XRN
