/-! the exchange's readers: sinks, one step of reading -/
set_option maxRecDepth 100000
/-- a sink: room for N values; what it changes (V), what it hangs on (D), what it holds (K) -/
def Snk (sk N : Nat) (V D : Nat → Nat → Prop) (K : zH → List Nat → Prop) : Prop := (∀ h o v, zXx h 1 → K h o → o.length < N → ∃ h', fV_Sink_put h sk (nI v) = some (.inl none, h') ∧ K h' (o ++ [v]) ∧ fr V h h') ∧ (∀ h h' o U, fr U h h' → (∀ c j, D c j → ¬ U c j) → K h o → K h' o) ∧ (∀ c j, V c j → D c j) ∧ ∀ c j, D c j → 36 ≤ c ∧ c ≤ 91
/-- a row that is filled -/
def Kr (R : Nat) (h : zH) (o : List Nat) : Prop := zI h R 1 = nI o.length ∧ zI h R 2 = 0 ∧ rw h (R + 1) o
theorem snk_row {R : Nat} (hR : R = 42 ∨ R = 44 ∨ R = 46 ∨ R = 49 ∨ R = 51) : Snk R 6000 (fun c j => c = R ∧ j = 1 ∨ c = R + 1) (fun c j => c = R ∧ (j = 1 ∨ j = 2) ∨ c = R + 1) (Kr R) := by
  refine ⟨fun h o v st hK hl => ?_, fun h h' o U f hd hK => ?_, fun c j hw => by omega, fun c j hw => by omega⟩
  · obtain ⟨k1, k2, k3⟩ := hK
    have rw' : zRw h R 1 := by
      have := x_rw (o := R - 1) st (by omega)
      rw [show R = 1 + (R - 1) by omega]; exact this
    obtain ⟨t1, t2, t3, t4, t5, t6⟩ := zRw.T rw'
    refine ⟨zsI (zsI h (R + 1) o.length (nI v)) R 1 (nI (o.length + 1)), ?_, ⟨?_, ?_, ?_⟩, ?_⟩
    · unfold fV_Sink_put
      rw [if_pos t1, t3, zb1_s, zck_pos rw']
      unfold fX7_put
      rw [k2, if_pos rfl, k1, if_neg (by rw [li, nI_eq (by omega) (by omega)]; omega)]
      unfold fX7_put_J27
      rw [k2, if_pos rfl, k1, zck_pos (vin hl (by omega)), nI_clamp (by omega)]
      show some (Sum.inl none, zsI (zsI h (R + 1) o.length (nI v)) R 1 (zI (zsI h (R + 1) o.length (nI v)) R 1 + 1)) = _
      rw [eI, if_neg (by omega), k1, nI_1]
    · rw [eIs, List.length_append]; rfl
    · rw [eI, if_neg (by omega), eI, if_neg (by omega)]; exact k2
    · refine k3.app (fun j hj => ?_) ?_
      · rw [eI, if_neg (by omega), eI, if_neg (by omega)]
      · rw [eI, if_neg (by omega), eIs]
    · exact ((fr.refl _ h).sI (by omega) _).sI (by omega) _
  · exact ⟨(f.I (hd _ _ (by omega))).trans hK.1, (f.I (hd _ _ (by omega))).trans hK.2.1, fun k hk => (f.I (hd _ _ (by omega))).trans (hK.2.2 k hk)⟩
/-- a row that is full throws -/
theorem x_full {h : zH} {R : Nat} {o : List Nat} (hR : R = 42 ∨ R = 44 ∨ R = 46 ∨ R = 49 ∨ R = 51) (st : zXx h 1) (hK : Kr R h o) (hl : o.length = 6000) (v : Int32) : fV_Sink_put h R v = some (.inr 2, zsI h 2 6 (-6)) := by
  obtain ⟨k1, k2, k3⟩ := hK
  have rw' : zRw h R 1 := by
    have := x_rw (o := R - 1) st (by omega)
    rw [show R = 1 + (R - 1) by omega]; exact this
  obtain ⟨t1, t2, t3, t4, t5, t6⟩ := zRw.T rw'
  unfold fV_Sink_put
  rw [if_pos t1, t3, zb1_s, zck_pos rw']
  unfold fX7_put
  rw [k2, if_pos rfl, k1, hl, if_pos (by rfl)]
  rfl
/-- a row that only counts -/
def Kc (R : Nat) (h : zH) (o : List Nat) : Prop := zI h R 1 = nI o.length ∧ zI h R 2 = 1
theorem snk_cnt {R : Nat} (hR : R = 42 ∨ R = 44 ∨ R = 46 ∨ R = 49 ∨ R = 51) : Snk R (2 ^ 30) (fun c j => c = R ∧ j = 1) (fun c j => c = R ∧ (j = 1 ∨ j = 2)) (Kc R) := by
  refine ⟨fun h o v st hK hl => ?_, fun h h' o U f hd hK => ?_, fun c j hw => by omega, fun c j hw => by omega⟩
  · obtain ⟨k1, k2⟩ := hK
    have rw' : zRw h R 1 := by
      have := x_rw (o := R - 1) st (by omega)
      rw [show R = 1 + (R - 1) by omega]; exact this
    obtain ⟨t1, t2, t3, t4, t5, t6⟩ := zRw.T rw'
    refine ⟨zsI h R 1 (nI (o.length + 1)), ?_, ⟨?_, ?_⟩, ?_⟩
    · unfold fV_Sink_put
      rw [if_pos t1, t3, zb1_s, zck_pos rw']
      unfold fX7_put
      rw [k2, if_neg (by decide)]
      unfold fX7_put_J27
      rw [k2, if_neg (by decide), k1, nI_1]
      rfl
    · rw [eIs, List.length_append]; rfl
    · rw [eI, if_neg (by omega)]; exact k2
    · exact (fr.refl _ h).sI (by omega) _
  · exact ⟨(f.I (hd _ _ (by omega))).trans hK.1, (f.I (hd _ _ (by omega))).trans hK.2⟩
/-- a machine's own queue -/
def Kq (M : Nat) (h : zH) (w : List Nat) : Prop := ∃ fi, zI h M 4 = nI fi ∧ zI h M 5 = nI w.length ∧ fi + w.length ≤ 700 ∧ ∀ i, i < w.length → zI h (M + 1) (fi + i) = nI (w.getD i 0)
theorem snk_q {M : Nat} (hM : 36 ≤ M ∧ M ≤ 89) (hs : ∀ h, zXx h 1 → (zRd h M 1 ∨ zWr h M 1)) : Snk M 700 (fun c j => c = M ∧ (j = 4 ∨ j = 5) ∨ c = M + 1) (fun c j => c = M ∧ (j = 4 ∨ j = 5) ∨ c = M + 1) (Kq M) := by
  refine ⟨fun h w v st hK hl => ?_, fun h h' w U f hd hK => ?_, fun c j hw => hw, fun c j hw => by omega⟩
  · obtain ⟨fi, k1, k2, k3, k4⟩ := hK
    have core : ∃ h', fX4_put_3 h M 1 (nI v) = some h' ∧ Kq M h' (w ++ [v]) ∧ fr (fun c j => c = M ∧ (j = 4 ∨ j = 5) ∨ c = M + 1) h h' := by
      have j40 : ∀ h1 f1, fr (fun c j => c = M ∧ (j = 4 ∨ j = 5) ∨ c = M + 1) h h1 → zI h1 M 4 = nI f1 → zI h1 M 5 = nI w.length → f1 + w.length < 700 → (∀ i, i < w.length → zI h1 (M + 1) (f1 + i) = nI (w.getD i 0)) → ∃ h', fX4_put_3_J40 h1 M 1 (nI v) = some h' ∧ Kq M h' (w ++ [v]) ∧ fr (fun c j => c = M ∧ (j = 4 ∨ j = 5) ∨ c = M + 1) h h' := by
        intro h1 f1 ff q1 q2 q3 q4
        refine ⟨zsI (zsI h1 (M + 1) (f1 + w.length) (nI v)) M 5 (nI (w.length + 1)), ?_, ⟨f1, ?_, ?_, ?_, fun i hi => ?_⟩, ?_⟩
        · unfold fX4_put_3_J40
          rw [q1, q2, nI_add, zck_pos (vin q3 (by omega)), nI_clamp (by omega)]
          show some (zsI (zsI h1 (M + 1) (f1 + w.length) (nI v)) M 5 (zI (zsI h1 (M + 1) (f1 + w.length) (nI v)) M 5 + 1)) = _
          rw [eI, if_neg (by omega), q2, nI_1]
        · rw [eI, if_neg (by omega), eI, if_neg (by omega)]; exact q1
        · rw [eIs, List.length_append]; rfl
        · rw [List.length_append]; show f1 + (w.length + 1) ≤ 700; omega
        · rw [List.length_append] at hi
          have hi' : i < w.length + 1 := hi
          by_cases e : i = w.length
          · subst e; rw [eI, if_neg (by omega), eIs, gD_e]
          · rw [eI, if_neg (by omega), eI, if_neg (by omega), gD_l (by omega)]; exact q4 i (by omega)
        · exact (ff.sI (by omega) _).sI (by omega) _
      unfold fX4_put_3
      by_cases e : fi + w.length = 700
      · rw [k1, k2, nI_add, e, if_pos (by rfl), nI_clamp (by omega), nI_clamp (by omega), show (0 : Int32).toNatClampNeg = 0 from rfl]
        have cp : zcpOk 700 700 (nI fi) (0 : Int32) (nI w.length) := by
          refine ⟨nI_pos (by omega), by decide, nI_pos (by omega), ?_, ?_⟩
          · rw [nI_clamp (by omega), nI_clamp (by omega)]; omega
          · rw [nI_clamp (by omega), show (0 : Int32).toNatClampNeg = 0 from rfl]; omega
        rw [zck_pos cp]
        refine j40 _ 0 ?_ ?_ ?_ (by omega) (fun i hi => ?_)
        · exact ((fr.refl _ h).sC (fun j => Or.inr rfl) _).sI (by omega) _
        · rw [eIs]; rfl
        · rw [eI, if_neg (by omega), eCI, if_neg (by omega)]; exact k2
        · rw [eI, if_neg (by omega), eCI, if_pos rfl, pk_cpy_in (by omega) (by omega), show fi + (0 + i - 0) = fi + i by omega]
          exact k4 i hi
      · rw [if_neg (by rw [k1, k2, nI_add, li, nI_eq (by omega) (by omega)]; exact e)]
        exact j40 h fi (fr.refl _ _) k1 k2 (by omega) k4
    obtain ⟨h', e1, e2, e3⟩ := core
    refine ⟨h', ?_, e2, e3⟩
    unfold fV_Sink_put
    rcases hs h st with r | r
    · obtain ⟨t1, t2, -⟩ := zRd.T r
      rw [if_neg (by rw [t1]; decide), if_pos t1, t2, zb1_s, zck_pos r, e1, zb1_s]
    · obtain ⟨t1, t2, -⟩ := zWr.T r
      rw [if_neg (by rw [t1]; decide), if_neg (by rw [t1]; decide), if_pos t1, t2, zb1_s, zck_pos r, show fX4_put_4 h M 1 (nI v) = some h' from e1, zb1_s]
  · obtain ⟨fi, k1, k2, k3, k4⟩ := hK
    exact ⟨fi, (f.I (hd _ _ (by omega))).trans k1, (f.I (hd _ _ (by omega))).trans k2, k3, fun i hi => (f.I (hd _ _ (by omega))).trans (k4 i hi)⟩
section XPT
variable {sk N : Nat} {V D : Nat → Nat → Prop} {K : zH → List Nat → Prop} {h : zH} {o : List Nat}
theorem x_putPoint (S : Snk sk N V D K) (st : zXx h 1) (hK : K h o) {v : Nat} (hl : o.length + 1 < N) (hv : v ≤ 1114111) : ∃ h', fX0_putPoint h sk (nI v) = some (.inl none, h') ∧ K h' (o ++ units v) ∧ fr V h h' := by
  unfold fX0_putPoint units
  by_cases h1 : v < 65536
  · obtain ⟨h', e, k, f⟩ := S.1 h o v st hK (by omega)
    refine ⟨h', ?_, by rw [if_pos h1]; exact k, f⟩
    rw [if_neg (by rw [li, nI_leI (by omega) (by omega)]; omega), e, zxv_n]
  · obtain ⟨h2, e2, k2, f2⟩ := S.1 h o (55296 + (v - 65536) / 1024) st hK (by omega)
    obtain ⟨h3, e3, k3, f3⟩ := S.1 h2 _ (56320 + (v - 65536) % 1024) (zCt.ext st f2.lx) k2 (by rw [List.length_append]; exact hl)
    refine ⟨h3, ?_, ?_, f2.trans f3⟩
    · rw [if_pos (by rw [li, nI_leI (by omega) (by omega)]; omega), show (65536 : Int32) = nI 65536 from rfl, pk_sub (by omega), show (10 : Int32) = nI 10 from rfl, shrI (by omega) (by omega), show (55296 : Int32) = nI 55296 from rfl, nI_add, show (56320 : Int32) = nI 56320 from rfl, show nI (v - 65536) &&& 1023 = nI ((v - 65536) % 1024) from pk_andN (by omega) 10 (by decide), nI_add, e2, zxv_n, e3, zxv_n]
    · rw [if_neg h1]
      rw [List.append_assoc] at k3
      exact k3
end XPT
/-- a reader's cells -/
def xRd (h : zH) (a b sk rule st pd : Nat) (l : List Nat) (f : Nat) : Prop := zP h a 1 = some sk ∧ zP h a 2 = some b ∧ zI h a 3 = nI rule ∧ zI h a 6 = nI st ∧ zI h a 7 = nI pd ∧ zI h a 8 = nI l.length ∧ (∀ i, i < l.length → zI h (a + 2) i = nI (bt l i)) ∧ zI h a 13 = nI f
theorem x_skip {h : zH} {a n : Nat} {l : List Nat} (h8 : zI h a 8 = nI l.length) (hb : ∀ i, i < l.length → zI h (a + 2) i = nI (bt l i)) (hn : n ≤ l.length) (hl : l.length ≤ 4) (hn1 : 1 ≤ n) : zw (fX5_skip h a 1 (nI n)) (fun h' => fr (fun c j => c = a ∧ j = 8 ∨ c = a + 2) h h' ∧ zI h' a 8 = nI (l.drop n).length ∧ ∀ i, i < (l.drop n).length → zI h' (a + 2) i = nI (bt (l.drop n) i)) := by
  unfold fX5_skip
  rw [zw_let, h8, pk_sub hn]
  refine zw_for (fun i s => s.2 = nI i ∧ fr (fun c j => c = a ∧ j = 8 ∨ c = a + 2) h s.1 ∧ zI s.1 a 8 = nI (l.length - n) ∧ ∀ j, j < l.length → zI s.1 (a + 2) j = nI (if j < i then bt l (n + j) else bt l j)) (l.length - n) ?_ ⟨rfl, (fr.refl _ h).sI (by omega) _, by rw [eIs], fun j hj => by rw [eI, if_neg (by omega), if_neg (by omega)]; exact hb j hj⟩
  rintro i ⟨h1, x⟩ hi ⟨rfl, f, q8, qb⟩
  dsimp only at f q8 qb ⊢
  unfold fX5_skip_L12
  rw [q8]
  by_cases e : i = l.length - n
  · subst e
    rw [if_pos (Int32.le_refl _), zw_some]
    refine ⟨f, by rw [List.length_drop]; exact q8, fun j hj => ?_⟩
    rw [List.length_drop] at hj
    rw [qb j (by omega), if_pos hj, bt_drop]
  · rw [if_neg (by rw [nI_leI (by omega) (by omega)]; omega), nI_add, zw_ck, zw_ck, zw_let, zw_some, nI_clamp (by omega), nI_clamp (by omega), qb (i + n) (by omega), if_neg (by omega), nI_1]
    refine ⟨vin (by omega) (by omega), vin (by omega) (by omega), by omega, rfl, f.sI (by omega) _, ?_, fun j hj => ?_⟩
    · rw [eI, if_neg (by omega)]; exact q8
    · rw [eI]
      by_cases w : j = i
      · subst w
        rw [if_pos ⟨rfl, rfl⟩, if_pos (by omega), Nat.add_comm]
      · rw [if_neg (by omega), qb j hj]
        by_cases u : j < i
        · rw [if_pos u, if_pos (by omega)]
        · rw [if_neg u, if_neg (by omega)]
