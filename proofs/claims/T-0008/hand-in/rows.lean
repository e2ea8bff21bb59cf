section
/-- the binding (k, v) stands below n -/
def tm_In (ks vs : Nat → Int32) (n : Nat) (k v : Int32) : Prop := ∃ i, i < n ∧ ks i = k ∧ vs i = v
/-- the keys below n are different -/
def tm_Inj (ks : Nat → Int32) (n : Nat) : Prop := ∀ i j, i < n → j < n → ks i = ks j → i = j
/-- below m, g is f with place i closed up -/
def tm_Sh (i : Nat) (f g : Nat → Int32) (m : Nat) : Prop := ∀ p, p < m → g p = if p < i then f p else f (p + 1)
/-- both sides' keys are different, and both hold the same bindings -/
def tm_R (ks vs ks' vs' : Nat → Int32) (n : Nat) : Prop := tm_Inj ks n ∧ tm_Inj ks' n ∧ ∀ k v, tm_In ks vs n k v ↔ tm_In ks' vs' n k v
theorem tm_at (f : Nat → Int32) (i : Nat) (x : Int32) : upd f i x i = x := if_pos rfl
theorem tm_ne {f : Nat → Int32} {i j : Nat} {x : Int32} (h : ¬ j = i) : upd f i x j = f j := if_neg h
/-- a new value at a bound key -/
theorem tm_set {ks vs : Nat → Int32} {n i : Nat} {k v : Int32} (J : tm_Inj ks n) (hi : i < n) (hk : ks i = k) (k' v' : Int32) : tm_In ks (upd vs i v) n k' v' ↔ (k' = k ∧ v' = v) ∨ (¬ k' = k ∧ tm_In ks vs n k' v') := by
  constructor
  · rintro ⟨j, hj, e1, e2⟩
    by_cases h : j = i
    · subst h
      rw [tm_at] at e2
      exact .inl ⟨e1.symm.trans hk, e2.symm⟩
    · rw [tm_ne h] at e2
      exact .inr ⟨fun z => h (J j i hj hi (e1.trans (z.trans hk.symm))), j, hj, e1, e2⟩
  · rintro (⟨e1, e2⟩ | ⟨hn, j, hj, e1, e2⟩)
    · exact ⟨i, hi, hk.trans e1.symm, (tm_at vs i v).trans e2.symm⟩
    · have h : ¬ j = i := fun z => hn (by rw [← e1, z, hk])
      exact ⟨j, hj, e1, (tm_ne h).trans e2⟩
/-- a new binding behind the others -/
theorem tm_new {ks vs : Nat → Int32} {n : Nat} {k v : Int32} (F : ∀ i, i < n → ¬ ks i = k) (k' v' : Int32) : tm_In (upd ks n k) (upd vs n v) (n + 1) k' v' ↔ (k' = k ∧ v' = v) ∨ (¬ k' = k ∧ tm_In ks vs n k' v') := by
  constructor
  · rintro ⟨j, hj, e1, e2⟩
    by_cases h : j = n
    · subst h
      rw [tm_at] at e1 e2
      exact .inl ⟨e1.symm, e2.symm⟩
    · rw [tm_ne h] at e1 e2
      have hj' : j < n := by omega
      exact .inr ⟨fun z => F j hj' (e1.trans z), j, hj', e1, e2⟩
  · rintro (⟨e1, e2⟩ | ⟨hn, j, hj, e1, e2⟩)
    · exact ⟨n, Nat.lt_succ_self n, (tm_at ks n k).trans e1.symm, (tm_at vs n v).trans e2.symm⟩
    · have h : ¬ j = n := by omega
      exact ⟨j, by omega, (tm_ne h).trans e1, (tm_ne h).trans e2⟩
theorem tm_newJ {ks : Nat → Int32} {n : Nat} {k : Int32} (J : tm_Inj ks n) (F : ∀ i, i < n → ¬ ks i = k) : tm_Inj (upd ks n k) (n + 1) := by
  intro i j hi hj e
  by_cases h : i = n
  · by_cases h' : j = n
    · omega
    · rw [h, tm_at, tm_ne h'] at e
      exact absurd e.symm (F j (by omega))
  · by_cases h' : j = n
    · rw [h', tm_at, tm_ne h] at e
      exact absurd e (F i (by omega))
    · rw [tm_ne h, tm_ne h'] at e
      exact J i j (by omega) (by omega) e
/-- the class's remove: the last binding goes to place i -/
theorem tm_swp {ks vs : Nat → Int32} {m i : Nat} {k : Int32} (J : tm_Inj ks (m + 1)) (hi : i < m + 1) (hk : ks i = k) (k' v' : Int32) : tm_In (upd ks i (ks m)) (upd vs i (vs m)) m k' v' ↔ (¬ k' = k ∧ tm_In ks vs (m + 1) k' v') := by
  constructor
  · rintro ⟨j, hj, e1, e2⟩
    by_cases h : j = i
    · rw [h, tm_at] at e1 e2
      refine ⟨fun z => ?_, m, by omega, e1, e2⟩
      have := J m i (by omega) hi (e1.trans (z.trans hk.symm))
      omega
    · rw [tm_ne h] at e1 e2
      exact ⟨fun z => h (J j i (by omega) hi (e1.trans (z.trans hk.symm))), j, by omega, e1, e2⟩
  · rintro ⟨hn, j, hj, e1, e2⟩
    have h : ¬ j = i := fun z => hn (by rw [← e1, z, hk])
    by_cases hm : j = m
    · subst hm
      exact ⟨i, by omega, (tm_at _ _ _).trans e1, (tm_at _ _ _).trans e2⟩
    · exact ⟨j, by omega, (tm_ne h).trans e1, (tm_ne h).trans e2⟩
theorem tm_swpJ {ks : Nat → Int32} {m i : Nat} (J : tm_Inj ks (m + 1)) : tm_Inj (upd ks i (ks m)) m := by
  intro a b ha hb e
  by_cases h : a = i
  · by_cases h' : b = i
    · omega
    · rw [h, tm_at, tm_ne h'] at e
      have := J m b (by omega) (by omega) e
      omega
  · by_cases h' : b = i
    · rw [h', tm_at, tm_ne h] at e
      have := J a m (by omega) (by omega) e
      omega
    · rw [tm_ne h, tm_ne h'] at e
      exact J a b (by omega) (by omega) e
/-- the reference's remove: what stands behind place i moves down by one -/
theorem tm_shf {ks vs a b : Nat → Int32} {m i : Nat} {k : Int32} (J : tm_Inj ks (m + 1)) (hi : i < m + 1) (hk : ks i = k) (A : tm_Sh i ks a m) (B : tm_Sh i vs b m) (k' v' : Int32) : tm_In a b m k' v' ↔ (¬ k' = k ∧ tm_In ks vs (m + 1) k' v') := by
  constructor
  · rintro ⟨j, hj, e1, e2⟩
    rw [A j hj] at e1
    rw [B j hj] at e2
    by_cases h : j < i
    · rw [if_pos h] at e1 e2
      refine ⟨fun z => ?_, j, by omega, e1, e2⟩
      have := J j i (by omega) hi (e1.trans (z.trans hk.symm))
      omega
    · rw [if_neg h] at e1 e2
      refine ⟨fun z => ?_, j + 1, by omega, e1, e2⟩
      have := J (j + 1) i (by omega) hi (e1.trans (z.trans hk.symm))
      omega
  · rintro ⟨hn, j, hj, e1, e2⟩
    have h : ¬ j = i := fun z => hn (by rw [← e1, z, hk])
    by_cases hl : j < i
    · have hj' : j < m := by omega
      exact ⟨j, hj', (A j hj').trans ((if_pos hl).trans e1), (B j hj').trans ((if_pos hl).trans e2)⟩
    · obtain ⟨p, rfl⟩ : ∃ p, j = p + 1 := ⟨j - 1, by omega⟩
      have hp : p < m := by omega
      have hq : ¬ p < i := by omega
      exact ⟨p, hp, (A p hp).trans ((if_neg hq).trans e1), (B p hp).trans ((if_neg hq).trans e2)⟩
theorem tm_shfJ {ks a : Nat → Int32} {m i : Nat} (J : tm_Inj ks (m + 1)) (A : tm_Sh i ks a m) : tm_Inj a m := by
  intro p q hp hq e
  rw [A p hp, A q hq] at e
  by_cases h : p < i
  · by_cases h' : q < i
    · rw [if_pos h, if_pos h'] at e
      exact J p q (by omega) (by omega) e
    · rw [if_pos h, if_neg h'] at e
      have := J p (q + 1) (by omega) (by omega) e
      omega
  · by_cases h' : q < i
    · rw [if_neg h, if_pos h'] at e
      have := J (p + 1) q (by omega) (by omega) e
      omega
    · rw [if_neg h, if_neg h'] at e
      have := J (p + 1) (q + 1) (by omega) (by omega) e
      omega
section
variable {ks vs ks' vs' : Nat → Int32} {n : Nat}
theorem tm_valXY (R : tm_R ks vs ks' vs' n) {i j : Nat} {k : Int32} (hi : i < n) (hj : j < n) (e : ks i = k) (e' : ks' j = k) : vs' j = vs i := by
  obtain ⟨p, hp, a, b⟩ := (R.2.2 k (vs i)).mp ⟨i, hi, e, rfl⟩
  have h := R.2.1 j p hj hp (e'.trans a.symm)
  rw [h, b]
theorem tm_missY (R : tm_R ks vs ks' vs' n) {k : Int32} (F : ∀ i, i < n → ¬ ks i = k) : ∀ j, j < n → ¬ ks' j = k := by
  intro j hj e
  obtain ⟨p, hp, a, _⟩ := (R.2.2 k (vs' j)).mpr ⟨j, hj, e, rfl⟩
  exact F p hp a
theorem tm_missX (R : tm_R ks vs ks' vs' n) {k : Int32} (F : ∀ j, j < n → ¬ ks' j = k) : ∀ i, i < n → ¬ ks i = k := by
  intro j hj e
  obtain ⟨p, hp, a, _⟩ := (R.2.2 k (vs j)).mp ⟨j, hj, e, rfl⟩
  exact F p hp a
theorem tm_Rset (R : tm_R ks vs ks' vs' n) {i j : Nat} {k v : Int32} (hi : i < n) (hj : j < n) (e : ks i = k) (e' : ks' j = k) : tm_R ks (upd vs i v) ks' (upd vs' j v) n := by
  refine ⟨R.1, R.2.1, fun k' v' => ?_⟩
  rw [tm_set R.1 hi e, tm_set R.2.1 hj e', R.2.2 k' v']
theorem tm_Rnew (R : tm_R ks vs ks' vs' n) {k v : Int32} (F : ∀ i, i < n → ¬ ks i = k) : tm_R (upd ks n k) (upd vs n v) (upd ks' n k) (upd vs' n v) (n + 1) := by
  have F' := tm_missY R F
  refine ⟨tm_newJ R.1 F, tm_newJ R.2.1 F', fun k' v' => ?_⟩
  rw [tm_new F, tm_new F', R.2.2 k' v']
theorem tm_Rrem {m : Nat} {a b : Nat → Int32} (R : tm_R ks vs ks' vs' (m + 1)) {i j : Nat} {k : Int32} (hi : i < m + 1) (hj : j < m + 1) (e : ks i = k) (e' : ks' j = k) (A : tm_Sh j ks' a m) (B : tm_Sh j vs' b m) : tm_R (upd ks i (ks m)) (upd vs i (vs m)) a b m := by
  refine ⟨tm_swpJ R.1, tm_shfJ R.2.1 A, fun k' v' => ?_⟩
  rw [tm_swp R.1 hi e, tm_shf R.2.1 hj e' A B, R.2.2 k' v']
end
end
section
section
variable {x1 x2 : Int32} {c n : Nat} {ks vs : Nat → Int32}
theorem tm_getX {post : Int32 → Prop} (hn : n ≤ 8) (hf : ∀ i, i < n → ks i = x1 → post (vs i)) (h0 : (∀ i, i < n → ¬ ks i = x1) → post x2) : ∀ d j : Nat, j + d = n → (∀ i, i < j → ¬ ks i = x1) → wX_get_2 post x1 x2 (nI c) (nI n) ks vs (d + 1) (nI j) := by
  intro d
  induction d with
  | zero =>
    intro j hj hp
    have e : j = n := by omega
    subst e
    exact br_t (nI_le (Nat.le_refl _) (by omega)) (h0 hp)
  | succ d ih =>
    intro j hj hp
    have hl : ¬ nI n ≤ nI j := nI_ge (by omega) (by omega)
    have hi : vp_in (nI j) 8 := vp_in_nI (by omega) (by omega)
    have ec : (nI j).toNatClampNeg = j := nI_clamp (by omega)
    by_cases z : ks j = x1
    · have z' : ks (nI j).toNatClampNeg = x1 := by rw [ec]; exact z
      have q : post (vs (nI j).toNatClampNeg) := by rw [ec]; exact hf j (by omega) z
      exact br_f hl ⟨hi, br_t z' ⟨hi, q⟩⟩
    · have z' : ¬ ks (nI j).toNatClampNeg = x1 := by rw [ec]; exact z
      exact br_f hl ⟨hi, br_f z' (nm_r (nI_1 j) (ih (j + 1) (by omega) (lt_s hp z)))⟩
theorem tm_getY {post : Int32 → Prop} (hn : n ≤ 8) (hf : ∀ i, i < n → ks i = x1 → post (vs i)) (h0 : (∀ i, i < n → ¬ ks i = x1) → post x2) : ∀ d j : Nat, j + d = n → (∀ i, i < j → ¬ ks i = x1) → wY_get_2 post x1 x2 (nI c) (nI n) ks vs (d + 1) (nI j) := by
  intro d
  induction d with
  | zero =>
    intro j hj hp
    have e : j = n := by omega
    subst e
    exact br_t (nI_le (Nat.le_refl _) (by omega)) (h0 hp)
  | succ d ih =>
    intro j hj hp
    have hl : ¬ nI n ≤ nI j := nI_ge (by omega) (by omega)
    have hi : vp_in (nI j) 8 := vp_in_nI (by omega) (by omega)
    have ec : (nI j).toNatClampNeg = j := nI_clamp (by omega)
    by_cases z : ks j = x1
    · have z' : ks (nI j).toNatClampNeg = x1 := by rw [ec]; exact z
      have q : post (vs (nI j).toNatClampNeg) := by rw [ec]; exact hf j (by omega) z
      exact br_f hl ⟨hi, br_t z' ⟨hi, q⟩⟩
    · have z' : ¬ ks (nI j).toNatClampNeg = x1 := by rw [ec]; exact z
      exact br_f hl ⟨hi, br_f z' (nm_r (nI_1 j) (ih (j + 1) (by omega) (lt_s hp z)))⟩
theorem tm_putX {post : Int32 → SX → Prop} (hc : c ≤ 8) (hn : n ≤ c) (hf : ∀ i, i < n → ks i = x1 → post 2 (nI c, nI n, ks, upd vs i x2)) (h3 : (∀ i, i < n → ¬ ks i = x1) → n = c → post 3 (nI c, nI n, ks, vs)) (h1 : (∀ i, i < n → ¬ ks i = x1) → n < c → post 1 (nI c, nI (n + 1), upd ks n x1, upd vs n x2)) : ∀ d j : Nat, j + d = n → (∀ i, i < j → ¬ ks i = x1) → wX_put_2 post x1 x2 (nI c) (nI n) ks vs (d + 1) (nI j) := by
  intro d
  induction d with
  | zero =>
    intro j hj hp
    have e : j = n := by omega
    subst e
    have hl : nI j ≤ nI j := nI_le (Nat.le_refl _) (by omega)
    by_cases z : j = c
    · have z' : nI j = nI c := by rw [z]
      exact br_t hl (br_t z' (h3 hp z))
    · have z' : ¬ nI j = nI c := fun h => z ((nI_eq (by omega) (by omega)).mp h)
      have hi : vp_in (nI j) 8 := vp_in_nI (by omega) (by omega)
      have ec : (nI j).toNatClampNeg = j := nI_clamp (by omega)
      have e1 : upd ks (nI j).toNatClampNeg x1 = upd ks j x1 := by rw [ec]
      have e2 : upd vs (nI j).toNatClampNeg x2 = upd vs j x2 := by rw [ec]
      exact br_t hl (br_f z' ⟨hi, nm_r e1 ⟨hi, nm_r e2 (nm_r (nI_1 j) (h1 hp (by omega)))⟩⟩)
  | succ d ih =>
    intro j hj hp
    have hl : ¬ nI n ≤ nI j := nI_ge (by omega) (by omega)
    have hi : vp_in (nI j) 8 := vp_in_nI (by omega) (by omega)
    have ec : (nI j).toNatClampNeg = j := nI_clamp (by omega)
    by_cases z : ks j = x1
    · have z' : ks (nI j).toNatClampNeg = x1 := by rw [ec]; exact z
      have e2 : upd vs (nI j).toNatClampNeg x2 = upd vs j x2 := by rw [ec]
      exact br_f hl ⟨hi, br_t z' ⟨hi, nm_r e2 (hf j (by omega) z)⟩⟩
    · have z' : ¬ ks (nI j).toNatClampNeg = x1 := by rw [ec]; exact z
      exact br_f hl ⟨hi, br_f z' (nm_r (nI_1 j) (ih (j + 1) (by omega) (lt_s hp z)))⟩
theorem tm_putY {post : Int32 → SY → Prop} (hc : c ≤ 8) (hn : n ≤ c) (hf : ∀ i, i < n → ks i = x1 → post 2 (nI c, nI n, ks, upd vs i x2)) (h3 : (∀ i, i < n → ¬ ks i = x1) → n = c → post 3 (nI c, nI n, ks, vs)) (h1 : (∀ i, i < n → ¬ ks i = x1) → n < c → post 1 (nI c, nI (n + 1), upd ks n x1, upd vs n x2)) : ∀ d j : Nat, j + d = n → (∀ i, i < j → ¬ ks i = x1) → wY_put_2 post x1 x2 (nI c) (nI n) ks vs (d + 1) (nI j) := by
  intro d
  induction d with
  | zero =>
    intro j hj hp
    have e : j = n := by omega
    subst e
    have hl : nI j ≤ nI j := nI_le (Nat.le_refl _) (by omega)
    by_cases z : j < c
    · have z' : nI j < nI c := nI_lt z (by omega)
      have hi : vp_in (nI j) 8 := vp_in_nI (by omega) (by omega)
      have ec : (nI j).toNatClampNeg = j := nI_clamp (by omega)
      have e1 : upd ks (nI j).toNatClampNeg x1 = upd ks j x1 := by rw [ec]
      have e2 : upd vs (nI j).toNatClampNeg x2 = upd vs j x2 := by rw [ec]
      exact br_t hl (br_t z' ⟨hi, nm_r e1 ⟨hi, nm_r e2 (nm_r (nI_1 j) (h1 hp z))⟩⟩)
    · have z' : ¬ nI j < nI c := nI_nlt (by omega) (by omega)
      exact br_t hl (br_f z' (h3 hp (by omega)))
  | succ d ih =>
    intro j hj hp
    have hl : ¬ nI n ≤ nI j := nI_ge (by omega) (by omega)
    have hi : vp_in (nI j) 8 := vp_in_nI (by omega) (by omega)
    have ec : (nI j).toNatClampNeg = j := nI_clamp (by omega)
    by_cases z : ks j = x1
    · have z' : ks (nI j).toNatClampNeg = x1 := by rw [ec]; exact z
      have e2 : upd vs (nI j).toNatClampNeg x2 = upd vs j x2 := by rw [ec]
      exact br_f hl ⟨hi, br_t z' ⟨hi, nm_r e2 (hf j (by omega) z)⟩⟩
    · have z' : ¬ ks (nI j).toNatClampNeg = x1 := by rw [ec]; exact z
      exact br_f hl ⟨hi, br_f z' (nm_r (nI_1 j) (ih (j + 1) (by omega) (lt_s hp z)))⟩
theorem tm_remX {post : Int32 → SX → Prop} (hn : n ≤ 8) (hf : ∀ m i : Nat, n = m + 1 → i < n → ks i = x1 → post 0 (nI c, nI m, upd ks i (ks m), upd vs i (vs m))) (h4 : (∀ i, i < n → ¬ ks i = x1) → post 4 (nI c, nI n, ks, vs)) : ∀ d j : Nat, j + d = n → (∀ i, i < j → ¬ ks i = x1) → wX_remove_2 post x1 (nI c) (nI n) ks vs (d + 1) (nI j) := by
  intro d
  induction d with
  | zero =>
    intro j hj hp
    have e : j = n := by omega
    subst e
    exact br_t (nI_le (Nat.le_refl _) (by omega)) (h4 hp)
  | succ d ih =>
    intro j hj hp
    have hl : ¬ nI n ≤ nI j := nI_ge (by omega) (by omega)
    have hi : vp_in (nI j) 8 := vp_in_nI (by omega) (by omega)
    have ec : (nI j).toNatClampNeg = j := nI_clamp (by omega)
    by_cases z : ks j = x1
    · have z' : ks (nI j).toNatClampNeg = x1 := by rw [ec]; exact z
      obtain ⟨m, em⟩ : ∃ m, n = m + 1 := ⟨n - 1, by omega⟩
      have hm : vp_in (nI m) 8 := vp_in_nI (by omega) (by omega)
      have ecm : (nI m).toNatClampNeg = m := nI_clamp (by omega)
      have e0 : nI n - 1 = nI m := by rw [em]; exact nI_pred m
      have e1 : upd ks (nI j).toNatClampNeg (ks (nI m).toNatClampNeg) = upd ks j (ks m) := by rw [ec, ecm]
      have e2 : upd vs (nI j).toNatClampNeg (vs (nI m).toNatClampNeg) = upd vs j (vs m) := by rw [ec, ecm]
      exact br_f hl ⟨hi, br_t z' (nm_r e0 ⟨hm, hi, nm_r e1 ⟨hm, hi, nm_r e2 (hf m j em (by omega) z)⟩⟩)⟩
    · have z' : ¬ ks (nI j).toNatClampNeg = x1 := by rw [ec]; exact z
      exact br_f hl ⟨hi, br_f z' (nm_r (nI_1 j) (ih (j + 1) (by omega) (lt_s hp z)))⟩
/-- in the midst of the reference's shift: places i .. j - 1 have moved -/
def tm_Mid (i j : Nat) (f g : Nat → Int32) : Prop := ∀ p, g p = if i ≤ p ∧ p < j then f (p + 1) else f p
theorem tm_mid0 (i : Nat) (f : Nat → Int32) : tm_Mid i i f f := by
  intro p
  rw [if_neg (by omega)]
theorem tm_midS {i j : Nat} {f g : Nat → Int32} (hij : i ≤ j) (h : tm_Mid i j f g) : tm_Mid i (j + 1) f (upd g j (g (j + 1))) := by
  intro p
  by_cases e : p = j
  · subst e
    rw [tm_at, h (p + 1), if_neg (by omega), if_pos (by omega)]
  · rw [tm_ne e, h p]
    by_cases z : i ≤ p ∧ p < j
    · rw [if_pos z, if_pos (by omega)]
    · rw [if_neg z, if_neg (by omega)]
theorem tm_midE {i m : Nat} {f g : Nat → Int32} (h : tm_Mid i m f g) : tm_Sh i f g m := by
  intro p hp
  rw [h p]
  by_cases z : p < i
  · rw [if_pos z, if_neg (by omega)]
  · rw [if_neg z, if_pos (by omega)]
theorem tm_shY {post : Int32 → SY → Prop} {m i : Nat} (hm : m + 1 ≤ 8) (hf : ∀ a b : Nat → Int32, tm_Sh i ks a m → tm_Sh i vs b m → post 0 (nI c, nI m, a, b)) : ∀ (d j : Nat) (a b : Nat → Int32), j + d = m → i ≤ j → tm_Mid i j ks a → tm_Mid i j vs b → wY_remove_22 post (nI c) (nI (m + 1)) (d + 1) (nI j) a b := by
  intro d
  induction d with
  | zero =>
    intro j a b hj hij A B
    have e : j = m := by omega
    subst e
    have hl : nI (j + 1) ≤ nI j + 1 := by rw [nI_1]; exact nI_le (Nat.le_refl _) (by omega)
    exact br_t hl (nm_r (nI_pred j) (hf a b (tm_midE A) (tm_midE B)))
  | succ d ih =>
    intro j a b hj hij A B
    have e1 : nI j + 1 = nI (j + 1) := nI_1 j
    have hl : ¬ nI (m + 1) ≤ nI j + 1 := by rw [e1]; exact nI_ge (by omega) (by omega)
    have hi : vp_in (nI j) 8 := vp_in_nI (by omega) (by omega)
    have hs : vp_in (nI j + 1) 8 := by rw [e1]; exact vp_in_nI (by omega) (by omega)
    have ec : (nI j).toNatClampNeg = j := nI_clamp (by omega)
    have es : (nI j + 1).toNatClampNeg = j + 1 := by rw [e1]; exact nI_clamp (by omega)
    have ea : upd a (nI j).toNatClampNeg (a (nI j + 1).toNatClampNeg) = upd a j (a (j + 1)) := by rw [ec, es]
    have eb : upd b (nI j).toNatClampNeg (b (nI j + 1).toNatClampNeg) = upd b j (b (j + 1)) := by rw [ec, es]
    exact br_f hl ⟨hs, hi, nm_r ea ⟨hs, hi, nm_r eb (nm_r e1 (ih (j + 1) _ _ (by omega) (by omega) (tm_midS hij A) (tm_midS hij B)))⟩⟩
theorem tm_remY {post : Int32 → SY → Prop} (hn : n ≤ 8) (hf : ∀ (m i : Nat) (a b : Nat → Int32), n = m + 1 → i < n → ks i = x1 → tm_Sh i ks a m → tm_Sh i vs b m → post 0 (nI c, nI m, a, b)) (h4 : (∀ i, i < n → ¬ ks i = x1) → post 4 (nI c, nI n, ks, vs)) : ∀ d j : Nat, j + d = n → (∀ i, i < j → ¬ ks i = x1) → wY_remove_2 post x1 (nI c) (nI n) ks vs (d + 1) (nI j) := by
  intro d
  induction d with
  | zero =>
    intro j hj hp
    have e : j = n := by omega
    subst e
    exact br_t (nI_le (Nat.le_refl _) (by omega)) (h4 hp)
  | succ d ih =>
    intro j hj hp
    have hl : ¬ nI n ≤ nI j := nI_ge (by omega) (by omega)
    have hi : vp_in (nI j) 8 := vp_in_nI (by omega) (by omega)
    have ec : (nI j).toNatClampNeg = j := nI_clamp (by omega)
    by_cases z : ks j = x1
    · have z' : ks (nI j).toNatClampNeg = x1 := by rw [ec]; exact z
      have em : n = j + d + 1 := by omega
      have K : wY_remove_22 post (nI c) (nI n) (d + 1) (nI j) ks vs := by
        rw [em]
        exact tm_shY (by omega) (fun a b A B => hf (j + d) j a b em (by omega) z A B) d j ks vs rfl (Nat.le_refl j) (tm_mid0 j ks) (tm_mid0 j vs)
      exact br_f hl ⟨hi, br_t z' ⟨d + 1, K⟩⟩
    · have z' : ¬ ks (nI j).toNatClampNeg = x1 := by rw [ec]; exact z
      exact br_f hl ⟨hi, br_f z' (nm_r (nI_1 j) (ih (j + 1) (by omega) (lt_s hp z)))⟩
end
end
section
/-- one capacity, one count, and the same bindings, each key once -/
def i_Rel (_ : Nat) (u : SX) (v : SY) : Prop := ∃ (c n : Nat) (ks vs ks' vs' : Nat → Int32), u = (nI c, nI n, ks, vs) ∧ v = (nI c, nI n, ks', vs') ∧ c ≤ 8 ∧ n ≤ c ∧ tm_R ks vs ks' vs' n
theorem i_up {k : Nat} {u : SX} {v : SY} (h : i_Rel k u v) : i_Rel (k + 3) u v := h
theorem tm_rel0 {x : Int32} (c : Nat) (e : x = nI c) (hc : c ≤ 8) : i_Rel 1 (x, 0, (fun _ => 0), (fun _ => 0)) (x, 0, (fun _ => 0), (fun _ => 0)) := by
  subst e
  exact ⟨c, 0, _, _, _, _, rfl, rfl, hc, Nat.zero_le c, fun i j hi => absurd hi (Nat.not_lt_zero i), fun i j hi => absurd hi (Nat.not_lt_zero i), fun _ _ => Iff.rfl⟩
theorem i_vc0 (k0 : Int32) : wpX_init (fun u => wpY_init (fun v => i_Rel 1 u v) k0) k0 := by
  by_cases h0 : 0 ≤ k0
  · by_cases h8 : k0 ≤ 8
    · obtain ⟨c, hc, e⟩ := nI_of2 (M := 8) (n := 8) (by decide) (Int32.not_lt.mpr h0) h8
      exact br_t h0 (br_t h8 (br_t h0 (br_t h8 (tm_rel0 c e hc))))
    · exact br_t h0 (br_f h8 (br_t h0 (br_f h8 (tm_rel0 8 (by decide) (Nat.le_refl 8)))))
  · have z : (0 : Int32) ≤ 8 := by decide
    exact br_f h0 (br_t z (br_f h0 (tm_rel0 0 (by decide) (Nat.zero_le 8))))
theorem i_vc_capacity {k : Nat} {u : SX} {v : SY} (I : i_Rel k u v) (hk : k + 3 ≤ 1537) : wpX_capacity (fun r => wpY_capacity (fun r' => r' = r ∧ i_Rel (k + 3) u v) v) u := by
  have I' := i_up I
  obtain ⟨c, n, ks, vs, ks', vs', rfl, rfl, hc, hn, R⟩ := I
  exact ⟨rfl, I'⟩
theorem i_vc_size {k : Nat} {u : SX} {v : SY} (I : i_Rel k u v) (hk : k + 3 ≤ 1537) : wpX_size (fun r => wpY_size (fun r' => r' = r ∧ i_Rel (k + 3) u v) v) u := by
  have I' := i_up I
  obtain ⟨c, n, ks, vs, ks', vs', rfl, rfl, hc, hn, R⟩ := I
  exact ⟨rfl, I'⟩
theorem i_vc_get {k : Nat} {u : SX} {v : SY} (I : i_Rel k u v) (hk : k + 3 ≤ 1537) (v1 : Int32) (v2 : Int32) : wpX_get (fun r => wpY_get (fun r' => r' = r ∧ i_Rel (k + 3) u v) v v1 v2) u v1 v2 := by
  have I' := i_up I
  obtain ⟨c, n, ks, vs, ks', vs', rfl, rfl, hc, hn, R⟩ := I
  refine ⟨n + 1, tm_getX (by omega) (fun i hi e => ?_) (fun F => ?_) n 0 (Nat.zero_add n) lt_0⟩
  · refine ⟨n + 1, tm_getY (by omega) (fun j hj e' => ⟨tm_valXY R hi hj e e', I'⟩) (fun F => ?_) n 0 (Nat.zero_add n) lt_0⟩
    exact absurd e (tm_missX R F i hi)
  · refine ⟨n + 1, tm_getY (by omega) (fun j hj e' => ?_) (fun _ => ⟨rfl, I'⟩) n 0 (Nat.zero_add n) lt_0⟩
    exact absurd e' (tm_missY R F j hj)
theorem i_vc_put {k : Nat} {u : SX} {v : SY} (I : i_Rel k u v) (hk : k + 3 ≤ 1537) (v1 : Int32) (v2 : Int32) : wpX_put (fun r u' => wpY_put (fun r' v' => r' = r ∧ i_Rel (k + 3) u' v') v v1 v2) u v1 v2 := by
  obtain ⟨c, n, ks, vs, ks', vs', rfl, rfl, hc, hn, R⟩ := I
  refine ⟨n + 1, tm_putX hc hn (fun i hi e => ?_) (fun F z => ?_) (fun F z => ?_) n 0 (Nat.zero_add n) lt_0⟩
  · refine ⟨n + 1, tm_putY hc hn (fun j hj e' => ⟨rfl, c, n, _, _, _, _, rfl, rfl, hc, hn, tm_Rset R hi hj e e'⟩) (fun F => ?_) (fun F => ?_) n 0 (Nat.zero_add n) lt_0⟩
    · exact absurd e (tm_missX R F i hi)
    · exact absurd e (tm_missX R F i hi)
  · refine ⟨n + 1, tm_putY hc hn (fun j hj e' => ?_) (fun _ _ => ⟨rfl, c, n, _, _, _, _, rfl, rfl, hc, hn, R⟩) (fun _ z' => ?_) n 0 (Nat.zero_add n) lt_0⟩
    · exact absurd e' (tm_missY R F j hj)
    · exact absurd z (Nat.ne_of_lt z')
  · refine ⟨n + 1, tm_putY hc hn (fun j hj e' => ?_) (fun _ z' => ?_) (fun _ _ => ⟨rfl, c, n + 1, _, _, _, _, rfl, rfl, hc, z, tm_Rnew R F⟩) n 0 (Nat.zero_add n) lt_0⟩
    · exact absurd e' (tm_missY R F j hj)
    · exact absurd z' (Nat.ne_of_lt z)
theorem i_vc_remove {k : Nat} {u : SX} {v : SY} (I : i_Rel k u v) (hk : k + 3 ≤ 1537) (v1 : Int32) : wpX_remove (fun r u' => wpY_remove (fun r' v' => r' = r ∧ i_Rel (k + 3) u' v') v v1) u v1 := by
  obtain ⟨c, n, ks, vs, ks', vs', rfl, rfl, hc, hn, R⟩ := I
  refine ⟨n + 1, tm_remX (by omega) (fun m i em hi e => ?_) (fun F => ?_) n 0 (Nat.zero_add n) lt_0⟩
  · subst em
    refine ⟨m + 1 + 1, tm_remY (by omega) (fun m' j a b em' hj e' A B => ?_) (fun F => ?_) (m + 1) 0 (Nat.zero_add (m + 1)) lt_0⟩
    · cases em'
      exact ⟨rfl, c, m, _, _, _, _, rfl, rfl, hc, by omega, tm_Rrem R hi hj e e' A B⟩
    · exact absurd e (tm_missX R F i hi)
  · refine ⟨n + 1, tm_remY (by omega) (fun m' j a b em' hj e' A B => ?_) (fun _ => ⟨rfl, c, n, _, _, _, _, rfl, rfl, hc, hn, R⟩) n 0 (Nat.zero_add n) lt_0⟩
    exact absurd e' (tm_missY R F j hj)
end
