section
/-- one if x is w, else none -/
def mq_d (x w : Int32) : Nat := if x = w then 1 else 0
/-- how many of the first n cells of f hold w -/
def mq_cnt (f : Nat → Int32) (w : Int32) : Nat → Nat
  | 0 => 0
  | n + 1 => mq_cnt f w n + mq_d (f n) w
theorem mq_cnt_s (f : Nat → Int32) (w : Int32) (n : Nat) : mq_cnt f w (n + 1) = mq_cnt f w n + mq_d (f n) w := rfl
theorem mq_d1 {x w : Int32} (h : x = w) : mq_d x w = 1 := if_pos h
theorem mq_d0 {x w : Int32} (h : ¬ x = w) : mq_d x w = 0 := if_neg h
theorem mq_cnt_y {f : Nat → Int32} {w : Int32} {n : Nat} (h : f n = w) : mq_cnt f w (n + 1) = mq_cnt f w n + 1 := by
  rw [mq_cnt_s, mq_d1 h]
theorem mq_cnt_n {f : Nat → Int32} {w : Int32} {n : Nat} (h : ¬ f n = w) : mq_cnt f w (n + 1) = mq_cnt f w n := by
  rw [mq_cnt_s, mq_d0 h, Nat.add_zero]
theorem mq_us (f : Nat → Int32) (k : Nat) (x : Int32) : upd f k x k = x := if_pos rfl
theorem mq_un {f : Nat → Int32} {k j : Nat} (x : Int32) (h : j ≠ k) : upd f k x j = f j := if_neg h
theorem mq_cong {f g : Nat → Int32} (w : Int32) : ∀ n : Nat, (∀ i, i < n → f i = g i) → mq_cnt f w n = mq_cnt g w n := by
  intro n
  induction n with
  | zero => intro _; rfl
  | succ n ih =>
    intro h
    rw [mq_cnt_s f, mq_cnt_s g, h n (Nat.lt_succ_self n), ih (fun i hi => h i (Nat.lt_succ_of_lt hi))]
/-- a cell stored just behind the held ones -/
theorem mq_add (f : Nat → Int32) (w x : Int32) (n : Nat) : mq_cnt (upd f n x) w (n + 1) = mq_cnt f w n + mq_d x w := by
  rw [mq_cnt_s, mq_us, mq_cong (g := f) w n (fun i hi => mq_un x (Nat.ne_of_lt hi))]
/-- a held cell overwritten -/
theorem mq_put (f : Nat → Int32) (w x : Int32) (b : Nat) : ∀ n : Nat, b < n → mq_cnt (upd f b x) w n + mq_d (f b) w = mq_cnt f w n + mq_d x w := by
  intro n
  induction n with
  | zero => intro h; exact absurd h (Nat.not_lt_zero b)
  | succ n ih =>
    intro h
    by_cases e : b = n
    · subst e
      rw [mq_add f w x b, mq_cnt_s f w b]
      exact Nat.add_right_comm _ _ _
    · have i := ih (by omega)
      have z : upd f b x n = f n := mq_un x (fun z => e z.symm)
      rw [mq_cnt_s (upd f b x) w n, mq_cnt_s f w n, z]
      omega
/-- the component's removal: the last held cell goes to the place b, and the last is blanked -/
theorem mq_del (f : Nat → Int32) (w : Int32) {b m : Nat} (hb : b < m + 1) : mq_cnt (upd (upd f b (f m)) m 0) w m + mq_d (f b) w = mq_cnt f w (m + 1) := by
  rw [mq_cong (g := upd f b (f m)) w m (fun i hi => mq_un 0 (Nat.ne_of_lt hi)), mq_cnt_s f w m]
  by_cases e : b = m
  · subst e
    rw [mq_cong (g := f) w b (fun i hi => mq_un _ (Nat.ne_of_lt hi))]
  · exact mq_put f w (f m) b m (by omega)
/-- the reference's removal: the cells behind the place b move down by one -/
theorem mq_shift (f g : Nat → Int32) (w : Int32) (b : Nat) : ∀ m : Nat, b < m + 1 → (∀ i, i < b → g i = f i) → (∀ i, b ≤ i → i < m → g i = f (i + 1)) → mq_cnt g w m + mq_d (f b) w = mq_cnt f w (m + 1) := by
  intro m
  induction m with
  | zero =>
    intro hb _ _
    have e : b = 0 := by omega
    subst e
    rfl
  | succ m ih =>
    intro hb h1 h2
    by_cases e : b = m + 1
    · subst e
      rw [mq_cnt_s f w (m + 1), mq_cong (g := f) w (m + 1) h1]
    · have i := ih (by omega) h1 (fun i h h' => h2 i h (by omega))
      rw [mq_cnt_s g w m, mq_cnt_s f w (m + 1), h2 m (by omega) (by omega)]
      omega
theorem mq_pos {f : Nat → Int32} {w : Int32} {i : Nat} (e : f i = w) : ∀ n : Nat, i < n → 0 < mq_cnt f w n := by
  intro n
  induction n with
  | zero => intro h; exact absurd h (Nat.not_lt_zero i)
  | succ n ih =>
    intro h
    by_cases z : i = n
    · subst z
      rw [mq_cnt_y e]; exact Nat.succ_pos _
    · have k := ih (by omega)
      rw [mq_cnt_s]; omega
theorem mq_ex {f : Nat → Int32} {w : Int32} : ∀ n : Nat, 0 < mq_cnt f w n → ∃ i, i < n ∧ f i = w := by
  intro n
  induction n with
  | zero => intro h; exact absurd h (Nat.lt_irrefl 0)
  | succ n ih =>
    intro h
    by_cases z : f n = w
    · exact ⟨n, Nat.lt_succ_self n, z⟩
    · rw [mq_cnt_n z] at h
      obtain ⟨i, hi, e⟩ := ih h
      exact ⟨i, Nat.lt_succ_of_lt hi, e⟩
/-- the least value is the same on both sides -/
theorem mq_min {a b : Nat → Int32} {n p q : Nat} (h : ∀ w, mq_cnt a w n = mq_cnt b w n) (hp : p < n) (hq : q < n) (hpm : ∀ i, i < n → a p ≤ a i) (hqm : ∀ i, i < n → b q ≤ b i) : b q = a p := by
  obtain ⟨i, hi, ei⟩ := mq_ex n (show 0 < mq_cnt b (a p) n by rw [← h]; exact mq_pos rfl n hp)
  obtain ⟨j, hj, ej⟩ := mq_ex n (show 0 < mq_cnt a (b q) n by rw [h]; exact mq_pos rfl n hq)
  have h1 : b q ≤ a p := by rw [← ei]; exact hqm i hi
  have h2 : a p ≤ b q := by rw [← ej]; exact hpm j hj
  exact Int32.le_antisymm h1 h2
end
section
theorem mq_countX {post : Int32 → Prop} {x c : Int32} {m : Nat} (hm : m ≤ 15) {a : Nat → Int32} (hp : post (nI (mq_cnt a x m))) : ∀ d j : Nat, j + d = m → wX_count_4 post x c (nI m) a (d + 1) (nI (mq_cnt a x j)) (nI j) := by
  intro d
  induction d with
  | zero =>
    intro j hj
    have e : j = m := by omega
    subst e
    exact br_t (nI_le (Nat.le_refl _) (by omega)) hp
  | succ d ih =>
    intro j hj
    have h : ¬ nI m ≤ nI j := nI_ge (by omega) (by omega)
    have hi : vp_in (nI j) 15 := vp_in_nI (by omega) (by omega)
    have cj : (nI j).toNatClampNeg = j := nI_clamp (by omega)
    have k := ih (j + 1) (by omega)
    by_cases z : a j = x
    · rw [mq_cnt_y z] at k
      exact br_f h ⟨hi, br_t (by rw [cj]; exact z) (nm_r (nI_1 _) (nm_r (nI_1 _) k))⟩
    · rw [mq_cnt_n z] at k
      exact br_f h ⟨hi, br_f (by rw [cj]; exact z) (nm_r (nI_1 _) k)⟩
theorem mq_countY {post : Int32 → Prop} {x c : Int32} {m : Nat} (hm : m ≤ 15) {a : Nat → Int32} (hp : post (nI (mq_cnt a x m))) : ∀ d j : Nat, j + d = m → wY_count_4 post x c (nI m) a (d + 1) (nI (mq_cnt a x j)) (nI j) := by
  intro d
  induction d with
  | zero =>
    intro j hj
    have e : j = m := by omega
    subst e
    exact br_t (nI_le (Nat.le_refl _) (by omega)) hp
  | succ d ih =>
    intro j hj
    have h : ¬ nI m ≤ nI j := nI_ge (by omega) (by omega)
    have hi : vp_in (nI j) 15 := vp_in_nI (by omega) (by omega)
    have cj : (nI j).toNatClampNeg = j := nI_clamp (by omega)
    have k := ih (j + 1) (by omega)
    by_cases z : a j = x
    · rw [mq_cnt_y z] at k
      exact br_f h ⟨hi, br_t (by rw [cj]; exact z) (nm_r (nI_1 _) (nm_r (nI_1 _) k))⟩
    · rw [mq_cnt_n z] at k
      exact br_f h ⟨hi, br_f (by rw [cj]; exact z) (nm_r (nI_1 _) k)⟩
/-- a better place found: the new least -/
theorem mq_less {a : Nat → Int32} {b j : Nat} (hmin : ∀ i, i < j → a b ≤ a i) (z : ¬ a b ≤ a j) : ∀ i, i < j + 1 → a j ≤ a i := by
  intro i hi
  by_cases e : i = j
  · rw [e]; exact Int32.le_refl _
  · exact Int32.le_trans (Int32.le_of_lt (Int32.not_le.mp z)) (hmin i (by omega))
theorem mq_more {a : Nat → Int32} {b j : Nat} (hmin : ∀ i, i < j → a b ≤ a i) (z : a b ≤ a j) : ∀ i, i < j + 1 → a b ≤ a i := by
  intro i hi
  by_cases e : i = j
  · rw [e]; exact z
  · exact hmin i (by omega)
theorem mq_scanX {post : Int32 → SX → Prop} {c : Int32} {m : Nat} (hm : m + 1 ≤ 15) {a : Nat → Int32} (hp : ∀ b, b < m + 1 → (∀ i, i < m + 1 → a b ≤ a i) → post (a b) (c, nI m, upd (upd a b (a m)) m 0)) : ∀ d j b : Nat, j + d = m + 1 → b < j → (∀ i, i < j → a b ≤ a i) → wX_extractMin_13 post c (nI (m + 1)) a (d + 1) (nI b) (nI j) := by
  intro d
  induction d with
  | zero =>
    intro j b hj hb hmin
    have e : j = m + 1 := by omega
    subst e
    have hb' : vp_in (nI b) 15 := vp_in_nI (by omega) (by omega)
    have hm' : vp_in (nI m) 15 := vp_in_nI (by omega) (by omega)
    have cb : (nI b).toNatClampNeg = b := nI_clamp (by omega)
    have cm : (nI m).toNatClampNeg = m := nI_clamp (by omega)
    refine br_t (nI_le (Nat.le_refl _) (by omega)) ⟨hb', nm_r (congrArg a cb) (nm_r (nI_pred m) ⟨hm', hb', nm_r (e' := upd a b (a m)) (by rw [cb, cm]) ⟨hm', nm_r (e' := upd (upd a b (a m)) m 0) (by rw [cm]) ?_⟩⟩)⟩
    exact hp b hb hmin
  | succ d ih =>
    intro j b hj hb hmin
    have h : ¬ nI (m + 1) ≤ nI j := nI_ge (by omega) (by omega)
    have hj' : vp_in (nI j) 15 := vp_in_nI (by omega) (by omega)
    have hb' : vp_in (nI b) 15 := vp_in_nI (by omega) (by omega)
    have cb : (nI b).toNatClampNeg = b := nI_clamp (by omega)
    have cj : (nI j).toNatClampNeg = j := nI_clamp (by omega)
    by_cases z : a b ≤ a j
    · exact br_f h ⟨hj', hb', br_t (by rw [cb, cj]; exact z) (nm_r (nI_1 j) (ih (j + 1) b (by omega) (by omega) (mq_more hmin z)))⟩
    · exact br_f h ⟨hj', hb', br_f (by rw [cb, cj]; exact z) (nm_r (nI_1 j) (ih (j + 1) j (by omega) (by omega) (mq_less hmin z)))⟩
theorem mq_shiftY {post : Int32 → SY → Prop} {r c : Int32} {m b : Nat} (hm : m + 1 ≤ 15) {f : Nat → Int32} (hp : ∀ g : Nat → Int32, (∀ i, i < b → g i = f i) → (∀ i, b ≤ i → i < m → g i = f (i + 1)) → post r (c, nI m, g)) : ∀ (d j : Nat) (g : Nat → Int32), j + d = m → b ≤ j → (∀ i, i < b → g i = f i) → (∀ i, b ≤ i → i < j → g i = f (i + 1)) → (∀ i, j < i → g i = f i) → wY_extractMin_55 post r c (nI (m + 1)) (d + 1) (nI (j + 1)) g := by
  intro d
  induction d with
  | zero =>
    intro j g hj hb h1 h2 h3
    have e : j = m := by omega
    subst e
    exact br_t (nI_le (Nat.le_refl _) (by omega)) (nm_r (nI_pred j) (hp g h1 h2))
  | succ d ih =>
    intro j g hj hb h1 h2 h3
    have h : ¬ nI (m + 1) ≤ nI (j + 1) := nI_ge (by omega) (by omega)
    have hj1 : vp_in (nI (j + 1)) 15 := vp_in_nI (by omega) (by omega)
    have hj0 : vp_in (nI (j + 1) - 1) 15 := by rw [nI_pred]; exact vp_in_nI (by omega) (by omega)
    have q1 : (nI (j + 1)).toNatClampNeg = j + 1 := nI_clamp (by omega)
    have q0 : (nI (j + 1) - 1).toNatClampNeg = j := by rw [nI_pred]; exact nI_clamp (by omega)
    refine br_f h ⟨hj1, hj0, nm_r (e' := upd g j (g (j + 1))) (by rw [q0, q1]) (nm_r (nI_1 (j + 1)) (ih (j + 1) (upd g j (g (j + 1))) (by omega) (by omega) ?_ ?_ ?_))⟩
    · intro i hi
      rw [mq_un _ (by omega)]; exact h1 i hi
    · intro i hi hi'
      by_cases e : i = j
      · rw [e, mq_us]; exact h3 (j + 1) (by omega)
      · rw [mq_un _ e]; exact h2 i hi (by omega)
    · intro i hi
      rw [mq_un _ (by omega)]; exact h3 i (by omega)
theorem mq_scanY {post : Int32 → SY → Prop} {c : Int32} {m : Nat} (hm : m + 1 ≤ 15) {a : Nat → Int32} (hp : ∀ b, b < m + 1 → (∀ i, i < m + 1 → a b ≤ a i) → ∀ g : Nat → Int32, (∀ i, i < b → g i = a i) → (∀ i, b ≤ i → i < m → g i = a (i + 1)) → post (a b) (c, nI m, g)) : ∀ d j b : Nat, j + d = m + 1 → b < j → (∀ i, i < j → a b ≤ a i) → wY_extractMin_13 post c (nI (m + 1)) a (d + 1) (nI b) (nI j) := by
  intro d
  induction d with
  | zero =>
    intro j b hj hb hmin
    have e : j = m + 1 := by omega
    subst e
    have hb' : vp_in (nI b) 15 := vp_in_nI (by omega) (by omega)
    have cb : (nI b).toNatClampNeg = b := nI_clamp (by omega)
    have k := mq_shiftY hm (hp b hb hmin) (m - b) b a (by omega) (Nat.le_refl b) (fun _ _ => rfl) (fun i h h' => absurd h (by omega)) (fun _ _ => rfl)
    exact br_t (nI_le (Nat.le_refl _) (by omega)) ⟨hb', nm_r (congrArg a cb) (nm_r (nI_1 b) ⟨m - b + 1, k⟩)⟩
  | succ d ih =>
    intro j b hj hb hmin
    have h : ¬ nI (m + 1) ≤ nI j := nI_ge (by omega) (by omega)
    have hj' : vp_in (nI j) 15 := vp_in_nI (by omega) (by omega)
    have hb' : vp_in (nI b) 15 := vp_in_nI (by omega) (by omega)
    have cb : (nI b).toNatClampNeg = b := nI_clamp (by omega)
    have cj : (nI j).toNatClampNeg = j := nI_clamp (by omega)
    by_cases z : a b ≤ a j
    · exact br_f h ⟨hj', hb', br_t (by rw [cb, cj]; exact z) (nm_r (nI_1 j) (ih (j + 1) b (by omega) (by omega) (mq_more hmin z)))⟩
    · exact br_f h ⟨hj', hb', br_f (by rw [cb, cj]; exact z) (nm_r (nI_1 j) (ih (j + 1) j (by omega) (by omega) (mq_less hmin z)))⟩
theorem mq_first (a : Nat → Int32) : ∀ i, i < 1 → a 0 ≤ a i := by
  intro i hi
  have e : i = 0 := by omega
  rw [e]; exact Int32.le_refl _
end
section
/-- the relation: one capacity, one size, and each value held as often on the one side as on the other -/
def i_Rel (_ : Nat) (u : SX) (v : SY) : Prop := ∃ (c m : Nat) (a b : Nat → Int32), c ≤ 15 ∧ m ≤ c ∧ u = (nI c, nI m, a) ∧ v = (nI c, nI m, b) ∧ ∀ w, mq_cnt a w m = mq_cnt b w m
theorem mq_rel {k c m : Nat} {a b : Nat → Int32} (hc : c ≤ 15) (hm : m ≤ c) (h : ∀ w, mq_cnt a w m = mq_cnt b w m) : i_Rel k (nI c, nI m, a) (nI c, nI m, b) := ⟨c, m, a, b, hc, hm, rfl, rfl, h⟩
theorem mq_new {j : Nat} (hj : j ≤ 15) : i_Rel 1 (nI j, 0, fun _ => 0) (nI j, 0, fun _ => 0) := by
  rw [← nI_0]
  exact mq_rel hj (Nat.zero_le j) (fun _ => rfl)
theorem i_up {k : Nat} {u : SX} {v : SY} (h : i_Rel k u v) : i_Rel (k + 2) u v := h
theorem i_vc0 (k0 : Int32) : wpX_init (fun u => wpY_init (fun v => i_Rel 1 u v) k0) k0 := by
  by_cases h0 : 0 ≤ k0
  · by_cases h1 : k0 ≤ 15
    · obtain ⟨j, hj, rfl⟩ := nI_of2 (M := 15) (n := 15) (by decide) (Int32.not_lt.mpr h0) h1
      exact br_t h0 (br_t h1 (br_t h0 (br_t h1 (mq_new hj))))
    · exact br_t h0 (br_f h1 (br_t h0 (br_f h1 (mq_new (Nat.le_refl 15)))))
  · have h15 : (0 : Int32) ≤ 15 := by decide
    exact br_f h0 (br_t h15 (br_f h0 (mq_new (Nat.zero_le 15))))
theorem i_vc_capacity {k : Nat} {u : SX} {v : SY} (I : i_Rel k u v) (hk : k + 2 ≤ 1025) : wpX_capacity (fun r => wpY_capacity (fun r' => r' = r ∧ i_Rel (k + 2) u v) v) u := by
  obtain ⟨c, m, a, b, hc, hm, rfl, rfl, h⟩ := I
  exact And.intro rfl (mq_rel hc hm h)
theorem i_vc_size {k : Nat} {u : SX} {v : SY} (I : i_Rel k u v) (hk : k + 2 ≤ 1025) : wpX_size (fun r => wpY_size (fun r' => r' = r ∧ i_Rel (k + 2) u v) v) u := by
  obtain ⟨c, m, a, b, hc, hm, rfl, rfl, h⟩ := I
  exact And.intro rfl (mq_rel hc hm h)
theorem i_vc_insert {k : Nat} {u : SX} {v : SY} (I : i_Rel k u v) (hk : k + 2 ≤ 1025) (v1 : Int32) : wpX_insert (fun r u' => wpY_insert (fun r' v' => r' = r ∧ i_Rel (k + 2) u' v') v v1) u v1 := by
  obtain ⟨c, m, a, b, hc, hm, rfl, rfl, h⟩ := I
  by_cases l : m < c
  · have hX : ¬ nI c ≤ nI m := nI_ge l (by omega)
    have hY : nI m < nI c := nI_lt l (by omega)
    have hi : vp_in (nI m) 15 := vp_in_nI (by omega) (by omega)
    have cm : (nI m).toNatClampNeg = m := nI_clamp (by omega)
    have hR : i_Rel (k + 2) (nI c, nI (m + 1), upd a m v1) (nI c, nI (m + 1), upd b m v1) := mq_rel hc l (fun w => by rw [mq_add, mq_add, h w])
    exact br_f hX ⟨hi, nm_r (e' := upd a m v1) (by rw [cm]) (nm_r (nI_1 m) (br_t hY ⟨hi, nm_r (e' := upd b m v1) (by rw [cm]) (nm_r (nI_1 m) (And.intro rfl hR))⟩))⟩
  · have hX : nI c ≤ nI m := nI_le (by omega) (by omega)
    have hY : ¬ nI m < nI c := nI_nlt (by omega) (by omega)
    exact br_t hX (br_f hY (And.intro rfl (mq_rel hc hm h)))
theorem i_vc_extractMin {k : Nat} {u : SX} {v : SY} (I : i_Rel k u v) (hk : k + 2 ≤ 1025) : wpX_extractMin (fun r u' => wpY_extractMin (fun r' v' => r' = r ∧ i_Rel (k + 2) u' v') v) u := by
  obtain ⟨c, m, a, b, hc, hm, rfl, rfl, h⟩ := I
  cases m with
  | zero =>
    have h0 : ¬ (0 : Int32) < nI 0 := by rw [nI_0]; decide
    exact br_f h0 (br_t nI_0 (And.intro rfl (mq_rel hc hm h)))
  | succ m =>
    have h0 : (0 : Int32) < nI (m + 1) := by rw [← nI_0]; exact nI_lt (by omega) (by omega)
    have h1 : ¬ nI (m + 1) = 0 := nI_ne0 (by omega) (by omega)
    refine br_t h0 ⟨m + 1, mq_scanX (by omega) (fun p hp hpm => ?_) m 1 0 (by omega) (by omega) (mq_first a)⟩
    refine br_f h1 ⟨m + 1, mq_scanY (by omega) (fun q hq hqm g g1 g2 => ?_) m 1 0 (by omega) (by omega) (mq_first b)⟩
    have e := mq_min h hp hq hpm hqm
    refine And.intro e (mq_rel hc (by omega) (fun w => ?_))
    have e1 := mq_del a w hp
    have e2 := mq_shift b g w q m hq g1 g2
    have e3 := h w
    rw [e] at e2
    omega
theorem i_vc_count {k : Nat} {u : SX} {v : SY} (I : i_Rel k u v) (hk : k + 2 ≤ 1025) (v1 : Int32) : wpX_count (fun r => wpY_count (fun r' => r' = r ∧ i_Rel (k + 2) u v) v v1) u v1 := by
  obtain ⟨c, m, a, b, hc, hm, rfl, rfl, h⟩ := I
  have h15 : m ≤ 15 := by omega
  exact ⟨m + 1, mq_countX h15 ⟨m + 1, mq_countY h15 (And.intro (congrArg nI (h v1).symm) (mq_rel hc hm h)) m 0 (Nat.zero_add m)⟩ m 0 (Nat.zero_add m)⟩
end
