section
/-! The plain law: values among the first n cells, first occurrences, a relabelling. No program in sight. -/
/-- among the first n cells some cell holds x -/
def jn_has (a : Nat → Int32) (x : Int32) : Nat → Bool
  | 0 => false
  | n + 1 => jn_has a x n || decide (a n = x)
/-- the number of cells below n that hold a value for the first time -/
def jn_cnt (a : Nat → Int32) : Nat → Nat
  | 0 => 0
  | n + 1 => jn_cnt a n + (if jn_has a (a n) n = true then 0 else 1)
/-- the number of cells below n that hold x -/
def jn_num (a : Nat → Int32) (x : Int32) : Nat → Nat
  | 0 => 0
  | n + 1 => jn_num a x n + (if a n = x then 1 else 0)
/-- a, with y for x in the cells below n -/
def jn_rl (a : Nat → Int32) (x y : Int32) (n : Nat) : Nat → Int32 := fun j => if j < n ∧ a j = x then y else a j
/-- each of the first n cells holds its own number, the others 0 -/
def jn_id (n : Nat) : Nat → Int32 := fun j => if j < n then nI j else 0

theorem jn_has_c {a b : Nat → Int32} {x : Int32} : ∀ n : Nat, (∀ j, j < n → b j = a j) → jn_has b x n = jn_has a x n := by
  intro n
  induction n with
  | zero => intro _; rfl
  | succ n ih =>
    intro h
    rw [jn_has, jn_has, ih (fun j hj => h j (by omega)), h n (by omega)]
theorem jn_cnt_c {a b : Nat → Int32} : ∀ n : Nat, (∀ j, j < n → b j = a j) → jn_cnt b n = jn_cnt a n := by
  intro n
  induction n with
  | zero => intro _; rfl
  | succ n ih =>
    intro h
    rw [jn_cnt, jn_cnt, ih (fun j hj => h j (by omega)), h n (by omega), jn_has_c n (fun j hj => h j (by omega))]
theorem jn_num_c {a b : Nat → Int32} {x : Int32} : ∀ n : Nat, (∀ j, j < n → b j = a j) → jn_num b x n = jn_num a x n := by
  intro n
  induction n with
  | zero => intro _; rfl
  | succ n ih =>
    intro h
    rw [jn_num, jn_num, ih (fun j hj => h j (by omega)), h n (by omega)]

theorem jn_has_at {a : Nat → Int32} {p : Nat} : ∀ n : Nat, p < n → jn_has a (a p) n = true := by
  intro n
  induction n with
  | zero => intro h; omega
  | succ n ih =>
    intro h
    rw [jn_has]
    by_cases e : p = n
    · subst e; simp
    · rw [ih (by omega)]; rfl

theorem jn_has_rl {a b : Nat → Int32} {x y : Int32} (hxy : ¬ x = y) (z : Int32) : ∀ n : Nat, (∀ j, j < n → b j = if a j = x then y else a j) →
    jn_has b z n = if z = x then false else if z = y then (jn_has a x n || jn_has a y n) else jn_has a z n := by
  intro n
  induction n with
  | zero => intro _; simp [jn_has]
  | succ n ih =>
    intro h
    rw [jn_has, jn_has, jn_has, jn_has, ih (fun j hj => h j (by omega)), h n (by omega)]
    by_cases zx : z = x
    · subst zx
      by_cases e : a n = z
      · simp [e, Ne.symm hxy]
      · simp [e]
    · by_cases zy : z = y
      · subst zy
        by_cases e : a n = x
        · simp [e, zx]
        · by_cases e2 : a n = z
          · simp [zx, e2]
          · simp [e, zx, e2]
      · by_cases e : a n = x
        · simp [e, zx, zy, Ne.symm zx, Ne.symm zy]
        · simp [e, zx, zy]

theorem jn_b1 (p q : Bool) (A B : Nat) (I : B + (if (p && q) = true then 1 else 0) = A) : B + (if (p || q) = true then 0 else 1) + (if ((p || true) && (q || false)) = true then 1 else 0) = A + (if p = true then 0 else 1) := by
  subst I
  cases p <;> cases q <;> rfl
theorem jn_b2 (p q : Bool) (A B : Nat) (I : B + (if (p && q) = true then 1 else 0) = A) : B + (if (p || q) = true then 0 else 1) + (if ((p || false) && (q || true)) = true then 1 else 0) = A + (if q = true then 0 else 1) := by
  subst I
  cases p <;> cases q <;> rfl
theorem jn_b3 (p q r : Bool) (A B : Nat) (I : B + (if (p && q) = true then 1 else 0) = A) : B + (if r = true then 0 else 1) + (if ((p || false) && (q || false)) = true then 1 else 0) = A + (if r = true then 0 else 1) := by
  subst I
  cases p <;> cases q <;> cases r <;> rfl
/-- a relabelling takes away one first occurrence if both values are held, none otherwise -/
theorem jn_cnt_rl {a b : Nat → Int32} {x y : Int32} (hxy : ¬ x = y) : ∀ n : Nat, (∀ j, j < n → b j = if a j = x then y else a j) →
    jn_cnt b n + (if (jn_has a x n && jn_has a y n) = true then 1 else 0) = jn_cnt a n := by
  intro n
  induction n with
  | zero => intro _; rfl
  | succ n ih =>
    intro h
    have I := ih (fun j hj => h j (by omega))
    have H := fun z => jn_has_rl hxy z n (fun j hj => h j (by omega))
    have hyx : ¬ y = x := fun e => hxy e.symm
    by_cases e : a n = x
    · have hb : b n = y := by rw [h n (by omega), if_pos e]
      rw [jn_cnt, jn_cnt, jn_has, jn_has, hb, H y, if_neg hyx, if_pos rfl, e, decide_eq_true (p := x = x) rfl, decide_eq_false hxy]
      exact jn_b1 _ _ _ _ I
    · have hb : b n = a n := by rw [h n (by omega), if_neg e]
      by_cases e2 : a n = y
      · rw [jn_cnt, jn_cnt, jn_has, jn_has, hb, e2, H y, if_neg hyx, if_pos rfl, decide_eq_true (p := y = y) rfl, decide_eq_false hyx]
        exact jn_b2 _ _ _ _ I
      · rw [jn_cnt, jn_cnt, jn_has, jn_has, hb, H (a n), if_neg e, if_neg e2, decide_eq_false e, decide_eq_false e2]
        exact jn_b3 _ _ _ _ _ I

theorem jn_id_has : ∀ n : Nat, n ≤ 16 → ∀ m, n ≤ m → m ≤ 16 → ∀ i, n ≤ i → i < 2 ^ 31 → jn_has (jn_id m) (nI i) n = false := by
  intro n
  induction n with
  | zero => intros; rfl
  | succ n ih =>
    intro hn m hm h16 i hi h31
    have e : jn_id m n = nI n := if_pos (by omega)
    have ne : ¬ nI n = nI i := by rw [nI_eq (by omega) h31]; omega
    rw [jn_has, ih (by omega) m (by omega) h16 i (by omega) h31, e]
    simp [ne]
theorem jn_id_cnt {m : Nat} (h16 : m ≤ 16) : ∀ n : Nat, n ≤ m → jn_cnt (jn_id m) n = n := by
  intro n
  induction n with
  | zero => intros; rfl
  | succ n ih =>
    intro hn
    have e : jn_id m n = nI n := if_pos (by omega)
    rw [jn_cnt, ih (by omega), e, jn_id_has n (by omega) m (by omega) h16 n (by omega) (by omega)]
    rfl

theorem jn_id_0 : (fun _ => 0 : Nat → Int32) = jn_id 0 := by
  funext j
  exact (if_neg (by omega)).symm
theorem jn_id_s (i : Nat) : upd (jn_id i) i (nI i) = jn_id (i + 1) := by
  funext j
  show (if j = i then nI i else if j < i then nI j else 0) = if j < i + 1 then nI j else 0
  by_cases e : j = i
  · subst e; rw [if_pos rfl, if_pos (by omega)]
  · rw [if_neg e]
    by_cases l : j < i
    · rw [if_pos l, if_pos (by omega)]
    · rw [if_neg l, if_neg (by omega)]
theorem jn_id_c {m n j : Nat} (h : j < m) (h2 : j < n) : jn_id m j = jn_id n j := by
  show (if j < m then nI j else 0) = if j < n then nI j else 0
  rw [if_pos h, if_pos h2]

theorem jn_rl_0 (a : Nat → Int32) (x y : Int32) : jn_rl a x y 0 = a := by
  funext j
  exact if_neg (by omega)
theorem jn_rl_at (a : Nat → Int32) (x y : Int32) (i : Nat) : jn_rl a x y i i = a i := if_neg (by omega)
theorem jn_rl_y {a : Nat → Int32} {x y : Int32} {i : Nat} (h : a i = x) : upd (jn_rl a x y i) i y = jn_rl a x y (i + 1) := by
  funext j
  show (if j = i then y else if j < i ∧ a j = x then y else a j) = if j < i + 1 ∧ a j = x then y else a j
  by_cases e : j = i
  · subst e; rw [if_pos rfl, if_pos ⟨by omega, h⟩]
  · rw [if_neg e]
    by_cases l : j < i ∧ a j = x
    · rw [if_pos l, if_pos ⟨by omega, l.2⟩]
    · rw [if_neg l, if_neg (fun z => l ⟨by omega, z.2⟩)]
theorem jn_rl_n {a : Nat → Int32} {x y : Int32} {i : Nat} (h : ¬ a i = x) : jn_rl a x y i = jn_rl a x y (i + 1) := by
  funext j
  show (if j < i ∧ a j = x then y else a j) = if j < i + 1 ∧ a j = x then y else a j
  by_cases e : j = i
  · subst e; rw [if_neg (fun z => h z.2), if_neg (fun z => h z.2)]
  · by_cases l : j < i ∧ a j = x
    · rw [if_pos l, if_pos ⟨by omega, l.2⟩]
    · rw [if_neg l, if_neg (fun z => l ⟨by omega, z.2⟩)]
theorem jn_rl_v {a : Nat → Int32} {x y : Int32} {n j : Nat} (h : j < n) : jn_rl a x y n j = if a j = x then y else a j := by
  show (if j < n ∧ a j = x then y else a j) = _
  by_cases e : a j = x
  · rw [if_pos ⟨h, e⟩, if_pos e]
  · rw [if_neg (fun z => e z.2), if_neg e]
end
section
/-! One lemma a loop: what it computes, for a general post. -/
theorem jn_16 : nI 16 = 16 := by decide +kernel
theorem jn_ix (x : Int32) {n : Nat} (hn : n < 2 ^ 31) : x < 0 ∨ nI n ≤ x ∨ ∃ j : Nat, j < n ∧ x = nI j := by
  by_cases h : x < 0
  · exact Or.inl h
  · obtain ⟨j, hj, rfl⟩ := nI_of h
    by_cases h2 : j < n
    · exact Or.inr (Or.inr ⟨j, h2, rfl⟩)
    · exact Or.inr (Or.inl (nI_le (by omega) hj))

theorem jn_xi (post : SX → Prop) (fk fc : Int32) (hp : post (fk, fc, jn_id 16)) : ∀ d i : Nat, i + d = 16 → wX_init_41 post fk fc (d + 1) (nI i) (jn_id i) := by
  intro d
  induction d with
  | zero =>
    intro i hi
    obtain rfl : i = 16 := by omega
    have h : (16 : Int32) ≤ nI 16 := by rw [jn_16]; decide
    unfold wX_init_41
    exact br_t h hp
  | succ d ih =>
    intro i hi
    have h : ¬ (16 : Int32) ≤ nI i := by rw [← jn_16]; exact nI_ge (by omega) (by omega)
    have hv : vp_in (nI i) 16 := vp_in_nI (by omega) (by omega)
    unfold wX_init_41
    refine br_f h ⟨hv, nm_r (e' := jn_id (i + 1)) ?_ (nm_r (e' := nI (i + 1)) (nI_1 i) (ih (i + 1) (by omega)))⟩
    rw [nI_clamp (by omega)]
    exact jn_id_s i
theorem jn_yi (post : SY → Prop) {m : Nat} (hm : m ≤ 16) (hp : post (nI m, jn_id m)) : ∀ d i : Nat, i + d = m → wY_init_40 post (nI m) (nI m) (d + 1) (nI i) (jn_id i) := by
  intro d
  induction d with
  | zero =>
    intro i hi
    obtain rfl : i = m := by omega
    unfold wY_init_40
    exact br_t (nI_le (by omega) (by omega)) hp
  | succ d ih =>
    intro i hi
    have h : ¬ nI m ≤ nI i := nI_ge (by omega) (by omega)
    have hv : vp_in (nI i) 16 := vp_in_nI (by omega) (by omega)
    unfold wY_init_40
    refine br_f h ⟨hv, nm_r (e' := jn_id (i + 1)) ?_ (nm_r (e' := nI (i + 1)) (nI_1 i) (ih (i + 1) (by omega)))⟩
    rw [nI_clamp (by omega)]
    exact jn_id_s i

theorem jn_xj (post : Int32 → SX → Prop) (x y fc : Int32) (a : Nat → Int32) {m : Nat} (hm : m ≤ 16) (hp : post 1 (nI m, fc - 1, jn_rl a x y m)) : ∀ d i : Nat, i + d = m → wX_join_52 post y x (nI m) fc (d + 1) (nI i) (jn_rl a x y i) := by
  intro d
  induction d with
  | zero =>
    intro i hi
    obtain rfl : i = m := by omega
    unfold wX_join_52
    exact br_t (nI_le (by omega) (by omega)) (nm_e hp)
  | succ d ih =>
    intro i hi
    have h : ¬ nI m ≤ nI i := nI_ge (by omega) (by omega)
    have hv : vp_in (nI i) 16 := vp_in_nI (by omega) (by omega)
    have I := ih (i + 1) (by omega)
    unfold wX_join_52
    rw [nI_clamp (by omega), jn_rl_at]
    refine br_f h ⟨hv, br_c (fun e => ⟨hv, nm_r (e' := jn_rl a x y (i + 1)) (jn_rl_y e) (nm_r (e' := nI (i + 1)) (nI_1 i) I)⟩) (fun e => nm_r (e' := nI (i + 1)) (nI_1 i) ?_)⟩
    rw [jn_rl_n e]
    exact I
theorem jn_yj (post : Int32 → SY → Prop) (x y : Int32) (a : Nat → Int32) {m : Nat} (hm : m ≤ 16) (hp : post 1 (nI m, jn_rl a x y m)) : ∀ d i : Nat, i + d = m → wY_join_61 post x y (nI m) (d + 1) (nI i) (jn_rl a x y i) := by
  intro d
  induction d with
  | zero =>
    intro i hi
    obtain rfl : i = m := by omega
    unfold wY_join_61
    exact br_t (nI_le (by omega) (by omega)) hp
  | succ d ih =>
    intro i hi
    have h : ¬ nI m ≤ nI i := nI_ge (by omega) (by omega)
    have hv : vp_in (nI i) 16 := vp_in_nI (by omega) (by omega)
    have I := ih (i + 1) (by omega)
    unfold wY_join_61
    rw [nI_clamp (by omega), jn_rl_at]
    refine br_f h ⟨hv, br_c (fun e => ⟨hv, nm_r (e' := jn_rl a x y (i + 1)) (jn_rl_y e) (nm_r (e' := nI (i + 1)) (nI_1 i) I)⟩) (fun e => nm_r (e' := nI (i + 1)) (nI_1 i) ?_)⟩
    rw [jn_rl_n e]
    exact I

theorem jn_num_y {a : Nat → Int32} {x : Int32} {i : Nat} (e : a i = x) : nI (jn_num a x i) + 1 = nI (jn_num a x (i + 1)) := by
  rw [jn_num, if_pos e, nI_1]
theorem jn_num_n {a : Nat → Int32} {x : Int32} {i : Nat} (e : ¬ a i = x) : jn_num a x (i + 1) = jn_num a x i := by
  rw [jn_num, if_neg e]; rfl
theorem jn_xs (post : Int32 → Prop) (x fc : Int32) (a : Nat → Int32) {m : Nat} (hm : m ≤ 16) (hp : post (nI (jn_num a x m))) : ∀ d i : Nat, i + d = m → wX_sizeOf_26 post x (nI m) fc a (d + 1) (nI (jn_num a x i)) (nI i) := by
  intro d
  induction d with
  | zero =>
    intro i hi
    obtain rfl : i = m := by omega
    unfold wX_sizeOf_26
    exact br_t (nI_le (by omega) (by omega)) hp
  | succ d ih =>
    intro i hi
    have h : ¬ nI m ≤ nI i := nI_ge (by omega) (by omega)
    have hv : vp_in (nI i) 16 := vp_in_nI (by omega) (by omega)
    have I := ih (i + 1) (by omega)
    unfold wX_sizeOf_26
    rw [nI_clamp (by omega)]
    refine br_f h ⟨hv, br_c (fun e => nm_r (e' := nI (jn_num a x (i + 1))) (jn_num_y e) (nm_r (e' := nI (i + 1)) (nI_1 i) I)) (fun e => nm_r (e' := nI (i + 1)) (nI_1 i) ?_)⟩
    rw [jn_num_n e] at I
    exact I
theorem jn_ys (post : Int32 → Prop) (a : Nat → Int32) {m p : Nat} (hm : m ≤ 16) (hpm : p < m) (hp : post (nI (jn_num a (a p) m))) : ∀ d i : Nat, i + d = m → wY_sizeOf_18 post (nI p) (nI m) a (d + 1) (nI (jn_num a (a p) i)) (nI i) := by
  intro d
  induction d with
  | zero =>
    intro i hi
    obtain rfl : i = m := by omega
    unfold wY_sizeOf_18
    exact br_t (nI_le (by omega) (by omega)) hp
  | succ d ih =>
    intro i hi
    have h : ¬ nI m ≤ nI i := nI_ge (by omega) (by omega)
    have hv : vp_in (nI i) 16 := vp_in_nI (by omega) (by omega)
    have hw : vp_in (nI p) 16 := vp_in_nI (by omega) (by omega)
    have I := ih (i + 1) (by omega)
    unfold wY_sizeOf_18
    rw [nI_clamp (n := i) (by omega), nI_clamp (n := p) (by omega)]
    refine br_f h ⟨hv, hw, br_c (fun e => nm_r (e' := nI (jn_num a (a p) (i + 1))) (jn_num_y e) (nm_r (e' := nI (i + 1)) (nI_1 i) I)) (fun e => nm_r (e' := nI (i + 1)) (nI_1 i) ?_)⟩
    rw [jn_num_n e] at I
    exact I

/-- the flag of the reference's inner loop behind j cells -/
def jn_fl (a : Nat → Int32) (x : Int32) (j : Nat) : Int32 := if jn_has a x j = true then 0 else 1
theorem jn_fl_y {a : Nat → Int32} {x : Int32} {j : Nat} (e : a j = x) : jn_fl a x (j + 1) = 0 := by
  rw [jn_fl, jn_has, decide_eq_true e, Bool.or_true, if_pos rfl]
theorem jn_fl_n {a : Nat → Int32} {x : Int32} {j : Nat} (e : ¬ a j = x) : jn_fl a x (j + 1) = jn_fl a x j := by
  rw [jn_fl, jn_has, decide_eq_false e, Bool.or_false, jn_fl]
theorem jn_fl_c0 {a : Nat → Int32} {i : Nat} (e : jn_fl a (a i) i = 0) : jn_cnt a (i + 1) = jn_cnt a i := by
  by_cases h : jn_has a (a i) i = true
  · rw [jn_cnt, if_pos h]; rfl
  · rw [jn_fl, if_neg h] at e
    exact absurd e (by decide)
theorem jn_fl_c1 {a : Nat → Int32} {i : Nat} (e : ¬ jn_fl a (a i) i = 0) : nI (jn_cnt a i) + 1 = nI (jn_cnt a (i + 1)) := by
  by_cases h : jn_has a (a i) i = true
  · rw [jn_fl, if_pos h] at e
    exact absurd rfl e
  · rw [jn_cnt, if_neg h, nI_1]
theorem jn_yg17 (post : Int32 → Prop) (J : Int32 → Int32 → Prop) (a : Nat → Int32) {m i : Nat} (hm : m ≤ 16) (him : i < m) (hJ : J (nI (jn_cnt a (i + 1))) (nI (i + 1))) :
    ∀ d j : Nat, j + d = i → wY_groups_17 post J (nI (jn_cnt a i)) (nI i) (nI m) a (d + 1) (jn_fl a (a i) j) (nI j) := by
  intro d
  induction d with
  | zero =>
    intro j hj
    obtain rfl : j = i := by omega
    unfold wY_groups_17
    refine br_t (nI_le (by omega) (by omega)) (br_c (fun e => nm_r (e' := nI (j + 1)) (nI_1 j) ?_) (fun e => nm_r (e' := nI (jn_cnt a (j + 1))) (jn_fl_c1 e) (nm_r (e' := nI (j + 1)) (nI_1 j) hJ)))
    rw [jn_fl_c0 e] at hJ
    exact hJ
  | succ d ih =>
    intro j hj
    have h : ¬ nI i ≤ nI j := nI_ge (by omega) (by omega)
    have hv : vp_in (nI j) 16 := vp_in_nI (by omega) (by omega)
    have hw : vp_in (nI i) 16 := vp_in_nI (by omega) (by omega)
    have I := ih (j + 1) (by omega)
    unfold wY_groups_17
    rw [nI_clamp (n := i) (by omega), nI_clamp (n := j) (by omega)]
    refine br_f h ⟨hv, hw, br_c (fun e => nm_r (e' := nI (j + 1)) (nI_1 j) ?_) (fun e => nm_r (e' := nI (j + 1)) (nI_1 j) ?_)⟩
    · rw [jn_fl_y e] at I
      exact I
    · rw [jn_fl_n e] at I
      exact I
theorem jn_yg4 (post : Int32 → Prop) (a : Nat → Int32) {m : Nat} (hm : m ≤ 16) (hp : post (nI (jn_cnt a m))) : ∀ d i : Nat, i + d = m → wY_groups_4 post (nI m) a (d + 1) (nI (jn_cnt a i)) (nI i) := by
  intro d
  induction d with
  | zero =>
    intro i hi
    obtain rfl : i = m := by omega
    unfold wY_groups_4
    exact br_t (nI_le (by omega) (by omega)) hp
  | succ d ih =>
    intro i hi
    have h : ¬ nI m ≤ nI i := nI_ge (by omega) (by omega)
    unfold wY_groups_4
    exact br_f h ⟨i + 1, jn_yg17 post _ a hm (by omega) (ih (i + 1) (by omega)) i 0 (by omega)⟩
end
section
/-- one bound m, the same labels below it, and X's count is the number of first occurrences -/
def i_Rel (_ : Nat) (u : SX) (v : SY) : Prop := ∃ (m : Nat) (a b : Nat → Int32), m ≤ 16 ∧ (∀ j, j < m → b j = a j) ∧ u = (nI m, nI (jn_cnt a m), a) ∧ v = (nI m, b)
theorem i_up {k : Nat} {u : SX} {v : SY} (h : i_Rel k u v) : i_Rel (k + 3) u v := h
theorem jn_xi29 (post : SX → Prop) {m : Nat} (hp : post (nI m, nI m, jn_id 16)) : wX_init_29 post (nI m) 0 0 (fun _ => 0) := by
  unfold wX_init_29
  rw [jn_id_0]
  exact ⟨17, jn_xi post _ _ hp 16 0 rfl⟩
theorem jn_yi24 (post : SY → Prop) {m : Nat} (hm : m ≤ 16) (hp : post (nI m, jn_id m)) : wY_init_24 post (nI m) 0 := by
  unfold wY_init_24
  rw [jn_id_0]
  exact ⟨m + 1, jn_yi post hm hp m 0 (by omega)⟩
theorem jn_r0 {m : Nat} (hm : m ≤ 16) : i_Rel 1 (nI m, nI m, jn_id 16) (nI m, jn_id m) := by
  refine ⟨m, jn_id 16, jn_id m, hm, fun j hj => jn_id_c hj (by omega), ?_, rfl⟩
  rw [jn_id_cnt (by omega) m hm]
theorem i_vc0 (k0 : Int32) : wpX_init (fun u => wpY_init (fun v => i_Rel 1 u v) k0) k0 := by
  by_cases h0 : 0 ≤ k0
  · obtain ⟨j, hj, rfl⟩ := nI_of (x := k0) (Int32.not_lt.mpr h0)
    by_cases h16 : j ≤ 16
    · have h : nI j ≤ 16 := by rw [← jn_16]; exact nI_le h16 (by omega)
      refine br_t h0 (br_t h (jn_xi29 _ ?_))
      exact br_t h0 (br_t h (jn_yi24 _ h16 (jn_r0 h16)))
    · have h : ¬ nI j ≤ 16 := by rw [← jn_16]; exact nI_ge (by omega) hj
      refine br_t h0 (br_f h (jn_xi29 (m := 16) _ ?_))
      exact br_t h0 (br_f h (jn_yi24 (m := 16) _ (by omega) (jn_r0 (by omega))))
  · have h : (0 : Int32) ≤ 16 := by decide
    refine br_f h0 (br_t h (jn_xi29 (m := 0) _ ?_))
    exact br_f h0 (jn_yi24 (m := 0) _ (by omega) (jn_r0 (by omega)))
theorem i_vc_size {k : Nat} {u : SX} {v : SY} (I : i_Rel k u v) (hk : k + 3 ≤ 1537) : wpX_size (fun r => wpY_size (fun r' => r' = r ∧ i_Rel (k + 3) u v) v) u := by
  have I' := I
  obtain ⟨m, a, b, hm, hab, rfl, rfl⟩ := I
  exact ⟨rfl, I'⟩
theorem jn_xjoin (post : Int32 → SX → Prop) (fc : Int32) (a : Nat → Int32) {m p q : Nat} (hm : m ≤ 16) (hp : p < m) (hq : q < m) (he : a p = a q → post 0 (nI m, fc, a)) (hn : ¬ a p = a q → post 1 (nI m, fc - 1, jn_rl a (a q) (a p) m)) : wpX_join post (nI m, fc, a) (nI p) (nI q) := by
  have z : ¬ nI p < 0 := nI_pos (by omega)
  have g : ¬ nI m ≤ nI p := nI_ge hp (by omega)
  have hi : vp_in (nI p) 16 := vp_in_nI (by omega) (by omega)
  have z2 : ¬ nI q < 0 := nI_pos (by omega)
  have g2 : nI q < nI m := nI_lt hq (by omega)
  have hi2 : vp_in (nI q) 16 := vp_in_nI (by omega) (by omega)
  unfold wpX_join
  dsimp only
  rw [nI_clamp (n := p) (by omega), nI_clamp (n := q) (by omega)]
  refine br_f z (br_f g (br_f z2 (br_t g2 ⟨hi, nm_e ⟨hi2, nm_e (br_c he (fun e => ⟨m + 1, ?_⟩))⟩⟩)))
  have hX := jn_xj post (a q) (a p) fc a hm (hn e) m 0 (by omega)
  rw [jn_rl_0] at hX
  exact hX
theorem jn_yjoin (post : Int32 → SY → Prop) (a : Nat → Int32) {m p q : Nat} (hm : m ≤ 16) (hp : p < m) (hq : q < m) (he : a p = a q → post 0 (nI m, a)) (hn : ¬ a p = a q → post 1 (nI m, jn_rl a (a q) (a p) m)) : wpY_join post (nI m, a) (nI p) (nI q) := by
  have z : ¬ nI p < 0 := nI_pos (by omega)
  have g : ¬ nI m ≤ nI p := nI_ge hp (by omega)
  have hi : vp_in (nI p) 16 := vp_in_nI (by omega) (by omega)
  have z2 : ¬ nI q < 0 := nI_pos (by omega)
  have g2 : nI q < nI m := nI_lt hq (by omega)
  have hi2 : vp_in (nI q) 16 := vp_in_nI (by omega) (by omega)
  unfold wpY_join
  dsimp only
  rw [nI_clamp (n := p) (by omega), nI_clamp (n := q) (by omega)]
  refine br_f z (br_f g (br_f z2 (br_t g2 ⟨hi, hi2, br_c he (fun e => ⟨hi2, nm_e ⟨hi, nm_e ⟨m + 1, ?_⟩⟩⟩)⟩)))
  have hY := jn_yj post (a q) (a p) a hm (hn e) m 0 (by omega)
  rw [jn_rl_0] at hY
  exact hY
theorem i_vc_join {k : Nat} {u : SX} {v : SY} (I : i_Rel k u v) (hk : k + 3 ≤ 1537) (v1 : Int32) (v2 : Int32) : wpX_join (fun r u' => wpY_join (fun r' v' => r' = r ∧ i_Rel (k + 3) u' v') v v1 v2) u v1 v2 := by
  have I' := I
  obtain ⟨m, a, b, hm, hab, rfl, rfl⟩ := I
  rcases jn_ix v1 (n := m) (by omega) with h | h | ⟨p, hp, rfl⟩
  · exact br_t h (br_t h ⟨rfl, I'⟩)
  · have z : ¬ v1 < 0 := Int32.not_lt.mpr (Int32.le_trans (nI_pos' (by omega)) h)
    exact br_f z (br_t h (br_f z (br_t h ⟨rfl, I'⟩)))
  have z : ¬ nI p < 0 := nI_pos (by omega)
  have g : ¬ nI m ≤ nI p := nI_ge hp (by omega)
  rcases jn_ix v2 (n := m) (by omega) with h | h | ⟨q, hq, rfl⟩
  · exact br_f z (br_f g (br_t h (br_f z (br_f g (br_t h ⟨rfl, I'⟩)))))
  · have z2 : ¬ v2 < 0 := Int32.not_lt.mpr (Int32.le_trans (nI_pos' (by omega)) h)
    have g2 : ¬ v2 < nI m := Int32.not_lt.mpr h
    exact br_f z (br_f g (br_f z2 (br_f g2 (br_f z (br_f g (br_f z2 (br_f g2 ⟨rfl, I'⟩)))))))
  have ep := hab p hp
  have eq := hab q hq
  refine jn_xjoin _ _ a hm hp hq (fun e => ?_) (fun e => ?_)
  · refine jn_yjoin _ b hm hp hq (fun _ => ⟨rfl, I'⟩) (fun ne => absurd ?_ ne)
    rw [ep, eq, e]
  · refine jn_yjoin _ b hm hp hq (fun e2 => absurd ?_ e) (fun _ => ⟨rfl, ?_⟩)
    · rw [← ep, ← eq, e2]
    · have hc := jn_cnt_rl (fun w => e w.symm) m (fun j hj => jn_rl_v (a := a) (x := a q) (y := a p) hj)
      rw [jn_has_at m hp, jn_has_at m hq] at hc
      have hc1 : jn_cnt a m = jn_cnt (jn_rl a (a q) (a p) m) m + 1 := hc.symm
      refine ⟨m, jn_rl a (a q) (a p) m, jn_rl b (b q) (b p) m, hm, fun j hj => ?_, ?_, rfl⟩
      · rw [jn_rl_v hj, jn_rl_v hj, ep, eq, hab j hj]
      · rw [hc1, nI_pred]
theorem i_vc_same {k : Nat} {u : SX} {v : SY} (I : i_Rel k u v) (hk : k + 3 ≤ 1537) (v1 : Int32) (v2 : Int32) : wpX_same (fun r => wpY_same (fun r' => r' = r ∧ i_Rel (k + 3) u v) v v1 v2) u v1 v2 := by
  have I' := I
  obtain ⟨m, a, b, hm, hab, rfl, rfl⟩ := I
  unfold wpX_same wpY_same
  dsimp only
  rcases jn_ix v1 (n := m) (by omega) with h | h | ⟨p, hp, rfl⟩
  · exact br_t h (br_t h ⟨rfl, I'⟩)
  · have z : ¬ v1 < 0 := Int32.not_lt.mpr (Int32.le_trans (nI_pos' (by omega)) h)
    exact br_f z (br_t h (br_f z (br_t h ⟨rfl, I'⟩)))
  have z : ¬ nI p < 0 := nI_pos (by omega)
  have g : ¬ nI m ≤ nI p := nI_ge hp (by omega)
  have hi : vp_in (nI p) 16 := vp_in_nI (by omega) (by omega)
  rcases jn_ix v2 (n := m) (by omega) with h | h | ⟨q, hq, rfl⟩
  · exact br_f z (br_f g (br_t h (br_f z (br_f g (br_t h ⟨rfl, I'⟩)))))
  · have z2 : ¬ v2 < 0 := Int32.not_lt.mpr (Int32.le_trans (nI_pos' (by omega)) h)
    have g2 : ¬ v2 < nI m := Int32.not_lt.mpr h
    exact br_f z (br_f g (br_f z2 (br_f g2 (br_f z (br_f g (br_f z2 (br_f g2 ⟨rfl, I'⟩)))))))
  have z2 : ¬ nI q < 0 := nI_pos (by omega)
  have g2 : nI q < nI m := nI_lt hq (by omega)
  have hi2 : vp_in (nI q) 16 := vp_in_nI (by omega) (by omega)
  rw [nI_clamp (n := p) (by omega), nI_clamp (n := q) (by omega), hab p hp, hab q hq]
  by_cases e : a p = a q
  · exact br_f z (br_f g (br_f z2 (br_t g2 ⟨hi, hi2, br_t e (br_f z (br_f g (br_f z2 (br_t g2 ⟨hi, hi2, br_t e ⟨rfl, I'⟩⟩))))⟩)))
  · exact br_f z (br_f g (br_f z2 (br_t g2 ⟨hi, hi2, br_f e (br_f z (br_f g (br_f z2 (br_t g2 ⟨hi, hi2, br_f e ⟨rfl, I'⟩⟩))))⟩)))
theorem i_vc_sizeOf {k : Nat} {u : SX} {v : SY} (I : i_Rel k u v) (hk : k + 3 ≤ 1537) (v1 : Int32) : wpX_sizeOf (fun r => wpY_sizeOf (fun r' => r' = r ∧ i_Rel (k + 3) u v) v v1) u v1 := by
  have I' := I
  obtain ⟨m, a, b, hm, hab, rfl, rfl⟩ := I
  rcases jn_ix v1 (n := m) (by omega) with h | h | ⟨p, hp, rfl⟩
  · exact br_t h (br_t h ⟨rfl, I'⟩)
  · have z : ¬ v1 < 0 := Int32.not_lt.mpr (Int32.le_trans (nI_pos' (by omega)) h)
    have g : ¬ v1 < nI m := Int32.not_lt.mpr h
    exact br_f z (br_f g (br_f z (br_f g ⟨rfl, I'⟩)))
  have z : ¬ nI p < 0 := nI_pos (by omega)
  have g : nI p < nI m := nI_lt hp (by omega)
  have hi : vp_in (nI p) 16 := vp_in_nI (by omega) (by omega)
  have en : jn_num b (b p) m = jn_num a (a p) m := by rw [hab p hp]; exact jn_num_c m hab
  refine br_f z (br_t g ⟨hi, nm_r (e' := a p) (by rw [nI_clamp (by omega)]) ⟨m + 1, jn_xs _ (a p) _ a hm ?_ m 0 (by omega)⟩⟩)
  refine br_f z (br_t g ⟨m + 1, jn_ys _ b hm hp ?_ m 0 (by omega)⟩)
  exact ⟨by rw [en], I'⟩
theorem i_vc_groups {k : Nat} {u : SX} {v : SY} (I : i_Rel k u v) (hk : k + 3 ≤ 1537) : wpX_groups (fun r => wpY_groups (fun r' => r' = r ∧ i_Rel (k + 3) u v) v) u := by
  have I' := I
  obtain ⟨m, a, b, hm, hab, rfl, rfl⟩ := I
  refine ⟨m + 1, jn_yg4 _ b hm ?_ m 0 (by omega)⟩
  exact ⟨by rw [jn_cnt_c m hab], I'⟩
end
