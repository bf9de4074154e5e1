/-! switches -/
set_option maxRecDepth 100000
theorem z_swI {α : Type} {A B : Option α} {y : α} {x v : Int32} {P : Prop} (hf : (if x = v then A else B) = some y) (kt : x = v → A = some y → P) (kf : ¬ x = v → B = some y → P) : P := by
  by_cases e : x = v
  · rw [if_pos e] at hf; exact kt e hf
  · rw [if_neg e] at hf; exact kf e hf
theorem z_swT {F : zF} {nL : Nat} {cc : ByteArray} {own nm : String} {ret : Option FieldType} {hh : List (Nat × Nat × Nat × Nat)} {h : zH} {pc : Nat} {lc : List (Nat × Value)} {st : List Value} {x v : Int32} {dflt lo hi off : Int} {offs : Array Int} {len : Nat} (tgt : Nat) (hd : decode cc pc = .ok (.tableswitch dflt lo hi offs, len)) (hx : x = v) (ho : offs[(v.toInt - lo).toNat]? = some off) (h1 : ¬ v.toInt < lo) (h2 : ¬ hi < v.toInt) (ht : (pc : Int) + off = (tgt : Int)) (k : Z F nL cc own nm ret hh h tgt lc st) : Z F nL cc own nm ret hh h pc lc (.int x :: st) := by
  subst hx
  exact z_op k (fun n hs v hv => hs v (List.mem_cons_of_mem _ hv)) (fun K hC r H locs ls w => by obtain ⟨l, d, h0, x0⟩ := F; obtain ⟨p, e, s, m, args, below, meth, c, D, bs, r0⟩ := K; exact lv_tableIn hC.1 hC.2.1 hd h1 h2 ho ht w)
theorem z_swO {F : zF} {nL : Nat} {cc : ByteArray} {own nm : String} {ret : Option FieldType} {hh : List (Nat × Nat × Nat × Nat)} {h : zH} {pc : Nat} {lc : List (Nat × Value)} {st : List Value} {x : Int32} {dflt lo hi : Int} {offs : Array Int} {len : Nat} (tgt : Nat) (hd : decode cc pc = .ok (.tableswitch dflt lo hi offs, len)) (ht : (pc : Int) + dflt = (tgt : Int)) (h1 : x.toInt < lo ∨ hi < x.toInt) (k : Z F nL cc own nm ret hh h tgt lc st) : Z F nL cc own nm ret hh h pc lc (.int x :: st) := by
  exact z_op k (fun n hs v hv => hs v (List.mem_cons_of_mem _ hv)) (fun K hC r H locs ls w => by obtain ⟨l, d, h0, x0⟩ := F; obtain ⟨p, e, s, m, args, below, meth, c, D, bs, r0⟩ := K; exact lv_tableOut hC.1 hC.2.1 hd h1 ht w)
theorem z_out_1_3 {x : Int32} (h1 : ¬ x = 1) (h2 : ¬ x = 2) (h3 : ¬ x = 3) : x.toInt < 1 ∨ 3 < x.toInt := by
  rcases Classical.em (x.toInt < 1 ∨ 3 < x.toInt) with h | h
  · exact h
  · exfalso
    have h1 : x.toInt = 1 ∨ x.toInt = 2 ∨ x.toInt = 3 := by omega
    rcases h1 with e | e | e
    · exact h1 (Int32.toInt_inj.mp (by rw [e]; rfl))
    · exact h2 (Int32.toInt_inj.mp (by rw [e]; rfl))
    · exact h3 (Int32.toInt_inj.mp (by rw [e]; rfl))
theorem z_out_0_4 {x : Int32} (h0 : ¬ x = 0) (h1 : ¬ x = 1) (h2 : ¬ x = 2) (h3 : ¬ x = 3) (h4 : ¬ x = 4) : x.toInt < 0 ∨ 4 < x.toInt := by
  rcases Classical.em (x.toInt < 0 ∨ 4 < x.toInt) with h | h
  · exact h
  · exfalso
    have h1 : x.toInt = 0 ∨ x.toInt = 1 ∨ x.toInt = 2 ∨ x.toInt = 3 ∨ x.toInt = 4 := by omega
    rcases h1 with e | e | e | e | e
    · exact h0 (Int32.toInt_inj.mp (by rw [e]; rfl))
    · exact h1 (Int32.toInt_inj.mp (by rw [e]; rfl))
    · exact h2 (Int32.toInt_inj.mp (by rw [e]; rfl))
    · exact h3 (Int32.toInt_inj.mp (by rw [e]; rfl))
    · exact h4 (Int32.toInt_inj.mp (by rw [e]; rfl))
theorem z_out_0_10 {x : Int32} (h0 : ¬ x = 0) (h1 : ¬ x = 1) (h2 : ¬ x = 2) (h3 : ¬ x = 3) (h4 : ¬ x = 4) (h5 : ¬ x = 5) (h6 : ¬ x = 6) (h7 : ¬ x = 7) (h8 : ¬ x = 8) (h9 : ¬ x = 9) (h10 : ¬ x = 10) : x.toInt < 0 ∨ 10 < x.toInt := by
  rcases Classical.em (x.toInt < 0 ∨ 10 < x.toInt) with h | h
  · exact h
  · exfalso
    have h1 : x.toInt = 0 ∨ x.toInt = 1 ∨ x.toInt = 2 ∨ x.toInt = 3 ∨ x.toInt = 4 ∨ x.toInt = 5 ∨ x.toInt = 6 ∨ x.toInt = 7 ∨ x.toInt = 8 ∨ x.toInt = 9 ∨ x.toInt = 10 := by omega
    rcases h1 with e | e | e | e | e | e | e | e | e | e | e
    · exact h0 (Int32.toInt_inj.mp (by rw [e]; rfl))
    · exact h1 (Int32.toInt_inj.mp (by rw [e]; rfl))
    · exact h2 (Int32.toInt_inj.mp (by rw [e]; rfl))
    · exact h3 (Int32.toInt_inj.mp (by rw [e]; rfl))
    · exact h4 (Int32.toInt_inj.mp (by rw [e]; rfl))
    · exact h5 (Int32.toInt_inj.mp (by rw [e]; rfl))
    · exact h6 (Int32.toInt_inj.mp (by rw [e]; rfl))
    · exact h7 (Int32.toInt_inj.mp (by rw [e]; rfl))
    · exact h8 (Int32.toInt_inj.mp (by rw [e]; rfl))
    · exact h9 (Int32.toInt_inj.mp (by rw [e]; rfl))
    · exact h10 (Int32.toInt_inj.mp (by rw [e]; rfl))
theorem z_out_0_30 {x : Int32} (h0 : ¬ x = 0) (h1 : ¬ x = 1) (h2 : ¬ x = 2) (h3 : ¬ x = 3) (h4 : ¬ x = 4) (h5 : ¬ x = 5) (h6 : ¬ x = 6) (h7 : ¬ x = 7) (h8 : ¬ x = 8) (h9 : ¬ x = 9) (h10 : ¬ x = 10) (h11 : ¬ x = 11) (h12 : ¬ x = 12) (h13 : ¬ x = 13) (h14 : ¬ x = 14) (h15 : ¬ x = 15) (h16 : ¬ x = 16) (h17 : ¬ x = 17) (h18 : ¬ x = 18) (h19 : ¬ x = 19) (h20 : ¬ x = 20) (h21 : ¬ x = 21) (h22 : ¬ x = 22) (h23 : ¬ x = 23) (h24 : ¬ x = 24) (h25 : ¬ x = 25) (h26 : ¬ x = 26) (h27 : ¬ x = 27) (h28 : ¬ x = 28) (h29 : ¬ x = 29) (h30 : ¬ x = 30) : x.toInt < 0 ∨ 30 < x.toInt := by
  rcases Classical.em (x.toInt < 0 ∨ 30 < x.toInt) with h | h
  · exact h
  · exfalso
    have h1 : x.toInt = 0 ∨ x.toInt = 1 ∨ x.toInt = 2 ∨ x.toInt = 3 ∨ x.toInt = 4 ∨ x.toInt = 5 ∨ x.toInt = 6 ∨ x.toInt = 7 ∨ x.toInt = 8 ∨ x.toInt = 9 ∨ x.toInt = 10 ∨ x.toInt = 11 ∨ x.toInt = 12 ∨ x.toInt = 13 ∨ x.toInt = 14 ∨ x.toInt = 15 ∨ x.toInt = 16 ∨ x.toInt = 17 ∨ x.toInt = 18 ∨ x.toInt = 19 ∨ x.toInt = 20 ∨ x.toInt = 21 ∨ x.toInt = 22 ∨ x.toInt = 23 ∨ x.toInt = 24 ∨ x.toInt = 25 ∨ x.toInt = 26 ∨ x.toInt = 27 ∨ x.toInt = 28 ∨ x.toInt = 29 ∨ x.toInt = 30 := by omega
    rcases h1 with e | e | e | e | e | e | e | e | e | e | e | e | e | e | e | e | e | e | e | e | e | e | e | e | e | e | e | e | e | e | e
    · exact h0 (Int32.toInt_inj.mp (by rw [e]; rfl))
    · exact h1 (Int32.toInt_inj.mp (by rw [e]; rfl))
    · exact h2 (Int32.toInt_inj.mp (by rw [e]; rfl))
    · exact h3 (Int32.toInt_inj.mp (by rw [e]; rfl))
    · exact h4 (Int32.toInt_inj.mp (by rw [e]; rfl))
    · exact h5 (Int32.toInt_inj.mp (by rw [e]; rfl))
    · exact h6 (Int32.toInt_inj.mp (by rw [e]; rfl))
    · exact h7 (Int32.toInt_inj.mp (by rw [e]; rfl))
    · exact h8 (Int32.toInt_inj.mp (by rw [e]; rfl))
    · exact h9 (Int32.toInt_inj.mp (by rw [e]; rfl))
    · exact h10 (Int32.toInt_inj.mp (by rw [e]; rfl))
    · exact h11 (Int32.toInt_inj.mp (by rw [e]; rfl))
    · exact h12 (Int32.toInt_inj.mp (by rw [e]; rfl))
    · exact h13 (Int32.toInt_inj.mp (by rw [e]; rfl))
    · exact h14 (Int32.toInt_inj.mp (by rw [e]; rfl))
    · exact h15 (Int32.toInt_inj.mp (by rw [e]; rfl))
    · exact h16 (Int32.toInt_inj.mp (by rw [e]; rfl))
    · exact h17 (Int32.toInt_inj.mp (by rw [e]; rfl))
    · exact h18 (Int32.toInt_inj.mp (by rw [e]; rfl))
    · exact h19 (Int32.toInt_inj.mp (by rw [e]; rfl))
    · exact h20 (Int32.toInt_inj.mp (by rw [e]; rfl))
    · exact h21 (Int32.toInt_inj.mp (by rw [e]; rfl))
    · exact h22 (Int32.toInt_inj.mp (by rw [e]; rfl))
    · exact h23 (Int32.toInt_inj.mp (by rw [e]; rfl))
    · exact h24 (Int32.toInt_inj.mp (by rw [e]; rfl))
    · exact h25 (Int32.toInt_inj.mp (by rw [e]; rfl))
    · exact h26 (Int32.toInt_inj.mp (by rw [e]; rfl))
    · exact h27 (Int32.toInt_inj.mp (by rw [e]; rfl))
    · exact h28 (Int32.toInt_inj.mp (by rw [e]; rfl))
    · exact h29 (Int32.toInt_inj.mp (by rw [e]; rfl))
    · exact h30 (Int32.toInt_inj.mp (by rw [e]; rfl))
