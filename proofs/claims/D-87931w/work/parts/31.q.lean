/-! new objects: an array made and laid into a field -/
def zaf (h : zH) (a k : Nat) (kd : Nat × Nat) (n : Nat) : zH := zsP (zmk h kd n) a k (some (zn h))
theorem zw_af {γ : Type} {h : zH} {a k n : Nat} {kd : Nat × Nat} {K : zH → Option γ} {Q : γ → Prop} (ha : a < zn h) (hp : zP h a k = none) (hk : zw (K (zaf h a k kd n)) Q) : zw (zlet (zmk h kd n) (fun h1 => zck (zP h1 a k = none) (zlet (zsP h1 a k (some (zn h))) K))) Q := by
  rw [zw_let, zw_ck]
  refine ⟨?_, hk⟩
  rw [← hp]
  exact congrFun (va_up_ne (zP h) _ (Nat.ne_of_lt ha)) k
theorem af_n (h : zH) (a k : Nat) (kd : Nat × Nat) (n : Nat) : zn (zaf h a k kd n) = zn h + 1 := rfl
theorem af_c (h : zH) (a k : Nat) (kd : Nat × Nat) (n : Nat) : zc (zaf h a k kd n) = zc h + 1 := rfl
theorem af_u (h : zH) (a k : Nat) (kd : Nat × Nat) (n : Nat) : zu (zaf h a k kd n) = zu h + n := rfl
theorem mk_T (h : zH) (kd : Nat × Nat) (n b : Nat) : zT (zmk h kd n) b = if b = zn h then kd else zT h b := by
  show va_up _ _ _ b = _
  unfold va_up
  rfl
theorem mk_P (h : zH) (kd : Nat × Nat) (n b j : Nat) : zP (zmk h kd n) b j = if b = zn h then none else zP h b j := by
  show (va_up (zP h) (zn h) (fun _ => none) b) j = _
  unfold va_up
  split <;> rfl
theorem mk_I (h : zH) (kd : Nat × Nat) (n b j : Nat) : zI (zmk h kd n) b j = if b = zn h then 0 else zI h b j := by
  show (va_up (zI h) (zn h) (fun _ => 0) b) j = _
  unfold va_up
  split <;> rfl
theorem mk_L (h : zH) (kd : Nat × Nat) (n b j : Nat) : zL (zmk h kd n) b j = if b = zn h then 0 else zL h b j := by
  show (va_up (zL h) (zn h) (fun _ => 0) b) j = _
  unfold va_up
  split <;> rfl
theorem af_T (h : zH) (a k : Nat) (kd : Nat × Nat) (n b : Nat) : zT (zaf h a k kd n) b = if b = zn h then kd else zT h b := mk_T h kd n b
theorem af_P (h : zH) (a k : Nat) (kd : Nat × Nat) (n b j : Nat) : zP (zaf h a k kd n) b j = if b = a ∧ j = k then some (zn h) else if b = zn h then none else zP h b j := by
  show (if b = a ∧ j = k then some (zn h) else zP (zmk h kd n) b j) = _
  rw [mk_P]
theorem af_I (h : zH) (a k : Nat) (kd : Nat × Nat) (n b j : Nat) : zI (zaf h a k kd n) b j = if b = zn h then 0 else zI h b j := mk_I h kd n b j
theorem af_L (h : zH) (a k : Nat) (kd : Nat × Nat) (n b j : Nat) : zL (zaf h a k kd n) b j = if b = zn h then 0 else zL h b j := mk_L h kd n b j
theorem m1_n (h : zH) (o i : Nat) : zn (zm1 h o i) = zn h + 1 := rfl
theorem m1_c (h : zH) (o i : Nat) : zc (zm1 h o i) = zc h + 1 := rfl
theorem m1_u (h : zH) (o i : Nat) : zu (zm1 h o i) = zu h + 110 := rfl
theorem m1_T (h : zH) (o i b : Nat) : zT (zm1 h o i) b = if b = zn h then (100, 110) else zT h b := mk_T h (100, 110) 110 b
theorem m1_P (h : zH) (o i b j : Nat) : zP (zm1 h o i) b j = if b = o ∧ j = i then some (zn h) else if b = zn h then none else zP h b j := by
  show (if b = o ∧ j = i then some (zn h) else zP (zmk h (100, 110) 110) b j) = _
  rw [mk_P]
theorem m1_I (h : zH) (o i b j : Nat) : zI (zm1 h o i) b j = if b = zn h then 0 else zI h b j := mk_I h (100, 110) 110 b j
theorem m1_L (h : zH) (o i b j : Nat) : zL (zm1 h o i) b j = if b = zn h then 0 else zL h b j := mk_L h (100, 110) 110 b j
/-- what lies below a is as it was -/
def zBl (h h' : zH) (a : Nat) : Prop := ∀ b, b < a → zT h' b = zT h b ∧ zP h' b = zP h b ∧ zI h' b = zI h b ∧ zL h' b = zL h b
theorem zBl_rf (h : zH) (a : Nat) : zBl h h a := fun _ _ => ⟨rfl, rfl, rfl, rfl⟩
theorem zBl_tr {h h1 h2 : zH} {a : Nat} (x : zBl h h1 a) (y : zBl h1 h2 a) : zBl h h2 a := fun b hb => ⟨(y b hb).1.trans (x b hb).1, (y b hb).2.1.trans (x b hb).2.1, (y b hb).2.2.1.trans (x b hb).2.2.1, (y b hb).2.2.2.trans (x b hb).2.2.2⟩
theorem zBl_af {h : zH} {a k n c : Nat} {kd : Nat × Nat} (hc : c ≤ a) (hn : c ≤ zn h) : zBl h (zaf h a k kd n) c := fun b hb => ⟨by rw [af_T, if_neg (by omega)], by funext j; rw [af_P, if_neg (by omega), if_neg (by omega)], by funext j; rw [af_I, if_neg (by omega)], by funext j; rw [af_L, if_neg (by omega)]⟩
theorem zBl_m1 {h : zH} {o i c : Nat} (hc : c ≤ o) (hn : c ≤ zn h) : zBl h (zm1 h o i) c := fun b hb => ⟨by rw [m1_T, if_neg (by omega)], by funext j; rw [m1_P, if_neg (by omega), if_neg (by omega)], by funext j; rw [m1_I, if_neg (by omega)], by funext j; rw [m1_L, if_neg (by omega)]⟩
/-- all ints and longs from a on are 0 -/
def zZr (h : zH) (a : Nat) : Prop := ∀ b j, a ≤ b → b < zn h → zI h b j = 0 ∧ zL h b j = 0
theorem zZr_af {h : zH} {a k n c : Nat} {kd : Nat × Nat} (x : zZr h c) : zZr (zaf h a k kd n) c := by
  intro b j h1 h2
  rw [af_n] at h2
  rw [af_I, af_L]
  split
  · exact ⟨rfl, rfl⟩
  · exact x b j h1 (by omega)
theorem zZr_m1 {h : zH} {o i c : Nat} (x : zZr h c) : zZr (zm1 h o i) c := by
  intro b j h1 h2
  rw [m1_n] at h2
  rw [m1_I, m1_L]
  split
  · exact ⟨rfl, rfl⟩
  · exact x b j h1 (by omega)
/-- a new table -/
def zTn (h h' : zH) (a : Nat) : Prop := zn h' = a + 22 ∧ zc h' = zc h + 21 ∧ zu h' = zu h + 1168 ∧ zTb h' a ∧ zBl h h' a ∧ zZr h' a
def zmf (h : zH) (a k : Nat) : zH := zsP (zmm h) a k (some (zn h))
theorem mm_n (h : zH) : zn (zmm h) = zn h + 5 := rfl
theorem mm_c (h : zH) : zc (zmm h) = zc h + 5 := rfl
theorem mm_u (h : zH) : zu (zmm h) = zu h + 444 := rfl
theorem mm_T (h : zH) (b : Nat) : zT (zmm h) b = if b = zn h then (106, 4) else if zn h < b ∧ b < zn h + 5 then (100, 110) else zT h b := by
  have n0 : zn (zmk h (106, 4) 4) = zn h + 1 := rfl
  unfold zmm
  simp only [m1_T, m1_n, n0, mk_T]
  repeat' split
  all_goals first | rfl | omega
theorem mm_P (h : zH) (b j : Nat) : zP (zmm h) b j = if b = zn h then (if j < 4 then some (zn h + 1 + j) else none) else if zn h < b ∧ b < zn h + 5 then none else zP h b j := by
  have n0 : zn (zmk h (106, 4) 4) = zn h + 1 := rfl
  unfold zmm
  simp only [m1_P, m1_n, n0, mk_P]
  repeat' split
  all_goals first | rfl | omega | (congr 1; omega)
theorem mm_I (h : zH) (b j : Nat) : zI (zmm h) b j = if zn h ≤ b ∧ b < zn h + 5 then 0 else zI h b j := by
  have n0 : zn (zmk h (106, 4) 4) = zn h + 1 := rfl
  unfold zmm
  simp only [m1_I, m1_n, n0, mk_I]
  repeat' split
  all_goals first | rfl | omega
theorem mm_L (h : zH) (b j : Nat) : zL (zmm h) b j = if zn h ≤ b ∧ b < zn h + 5 then 0 else zL h b j := by
  have n0 : zn (zmk h (106, 4) 4) = zn h + 1 := rfl
  unfold zmm
  simp only [m1_L, m1_n, n0, mk_L]
  repeat' split
  all_goals first | rfl | omega
theorem mf_n (h : zH) (a k : Nat) : zn (zmf h a k) = zn h + 5 := rfl
theorem mf_c (h : zH) (a k : Nat) : zc (zmf h a k) = zc h + 5 := rfl
theorem mf_u (h : zH) (a k : Nat) : zu (zmf h a k) = zu h + 444 := rfl
theorem mf_T (h : zH) (a k b : Nat) : zT (zmf h a k) b = if b = zn h then (106, 4) else if zn h < b ∧ b < zn h + 5 then (100, 110) else zT h b := mm_T h b
theorem mf_I (h : zH) (a k b j : Nat) : zI (zmf h a k) b j = if zn h ≤ b ∧ b < zn h + 5 then 0 else zI h b j := mm_I h b j
theorem mf_L (h : zH) (a k b j : Nat) : zL (zmf h a k) b j = if zn h ≤ b ∧ b < zn h + 5 then 0 else zL h b j := mm_L h b j
theorem mf_P (h : zH) (a k b j : Nat) : zP (zmf h a k) b j = if b = a ∧ j = k then some (zn h) else if b = zn h then (if j < 4 then some (zn h + 1 + j) else none) else if zn h < b ∧ b < zn h + 5 then none else zP h b j := by
  show (if b = a ∧ j = k then some (zn h) else zP (zmm h) b j) = _
  rw [mm_P]
theorem zw_mf {γ : Type} {h : zH} {a k : Nat} {K : zH → Option γ} {Q : γ → Prop} (ha : a < zn h) (hp : zP h a k = none) (hk : zw (K (zmf h a k)) Q) : zw (zlet (zmm h) (fun h1 => zck (zP h1 a k = none) (zlet (zsP h1 a k (some (zn h))) K))) Q := by
  rw [zw_let, zw_ck]
  refine ⟨?_, hk⟩
  rw [mm_P, if_neg (by omega), if_neg (by omega)]
  exact hp
theorem zBl_mf {h : zH} {a k c : Nat} (hc : c ≤ a) (hn : c ≤ zn h) : zBl h (zmf h a k) c := fun b hb => ⟨by rw [mf_T, if_neg (by omega), if_neg (by omega)], by funext j; rw [mf_P, if_neg (by omega), if_neg (by omega), if_neg (by omega)], by funext j; rw [mf_I, if_neg (by omega)], by funext j; rw [mf_L, if_neg (by omega)]⟩
theorem zZr_mf {h : zH} {a k c : Nat} (x : zZr h c) : zZr (zmf h a k) c := by
  intro b j h1 h2
  rw [mf_n] at h2
  rw [mf_I, mf_L]
  split
  · exact ⟨rfl, rfl⟩
  · exact x b j h1 (by omega)
theorem zOb_of {ci : Nat} {h : zH} {a : Nat} (hT : zT h a = (ci + 1, 0)) (hn : a < zn h) (h0 : a ≠ 0) : zOb ci h a := by
  refine ⟨fun j q hq => ?_, fun j q hq => by cases hq⟩
  have hj : j = 0 := by
    have := (List.getElem?_eq_some_iff.mp hq).1
    simp at this
    exact this
  subst hj
  cases hq
  refine ⟨by simp [zBok], h0, fun i kd hi => ?_, fun i p hi => by cases hi⟩
  have hi0 : i = 0 := by
    have := (List.getElem?_eq_some_iff.mp hi).1
    simp at this
    exact this
  subst hi0
  cases hi
  exact ⟨hn, hT⟩
theorem zw_lt {α β : Type} {a : α} {k : α → Option β} {Q : β → Prop} (b : α) (e : a = b) (h : zw (k b) Q) : zw (zlet a k) Q := e ▸ h
theorem zw_cm {α : Type} {c : Prop} {x : Option α} {Q : α → Prop} (hc : c) (h : zw x Q) : zw (zck c x) Q := zw_ck.mpr ⟨hc, h⟩
theorem zw_bm {α γ : Type} {x : Option α} {k : α → Option γ} {Q : γ → Prop} {a : α} (e : x = some a) (h : zw (k a) Q) : zw (zb1 x k) Q := by rw [e]; exact h
