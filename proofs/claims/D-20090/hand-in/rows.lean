section
/-- what both range methods leave in their new array of k places: the row a from f on, zeros past its length n -/
def ac_R (a : Nat → Int32) (n f k : Nat) (r : Nat → Int32) : Prop := ∀ j, j < k → r j = if f + j < n then a (f + j) else 0
/-- two such arrays agree below k -/
theorem ac_same {a p q : Nat → Int32} {n f k : Nat} (hp : ac_R a n f k p) (hq : ac_R a n f k q) : ∀ j, j < k → p j = q j := by
  intro j hj
  rw [hp j hj, hq j hj]
/-- cellAt ends, with some int -/
theorem ac_cell {post : Int32 → Prop} {L : Nat} {xs : Nat → Int32} (c : Nat) (hc : c ≤ 3) (hL : L ≤ 4) (H : ∀ x, post x) : wpL_cellAt post L xs () (nI c) := by
  unfold wpL_cellAt
  exact pk_le L c (fun _ => H _) (fun z => ⟨pk_in c L z, H _⟩)
/-- mix ends, with some array of at most 7 places -/
theorem ac_mix {post : St1 → Prop} {mc ms : Nat} {p0 p1 p2 : Int32} (hmc : 1 ≤ mc) (hms : 7 ≤ ms) (H : ∀ a n, n ≤ 7 → post (a, n)) : wpL_mix post mc ms () p0 p1 p2 := by
  obtain ⟨m, hm, e⟩ := pk_andE p2 (m := 7) 3 (by decide)
  have hm7 : m ≤ 7 := by omega
  unfold wpL_mix
  rw [e]
  refine ⟨nI_pos (by omega), nm_r (nI_clamp (by omega)) ⟨by omega, hmc, by omega, ?_⟩⟩
  exact pk_loop (fun n i s => wL_mix_10 post mc ms p0 p1 1 (0 + m) m n (nI i) s) (fun _ _ => True) m 0 (fun _ => 0) (by omega) trivial
    (fun n s _ => pk_le m m (fun _ => H s m hm7) (fun z => absurd z (by omega)))
    (fun n i s hi _ hw => pk_le m i (fun z => absurd z (by omega)) (fun _ => br_c (fun _ => ⟨pk_in i m hi, nm_e (nm_r (nI_1 i) (hw _ trivial))⟩) (fun _ => ⟨pk_in i m hi, nm_e (nm_r (nI_1 i) (hw _ trivial))⟩)))
/-- eqInts over two arrays that agree answers 1 -/
theorem ac_eqI {post : Int32 → Prop} {p q : Nat → Int32} {k : Nat} (hk : k ≤ 7) (h : ∀ j, j < k → p j = q j) (H : post 1) : wpL_eqInts post (p, k, q, k) := by
  unfold wpL_eqInts
  exact br_t rfl (pk_loop (σ := Unit) (fun n i _ => wL_eqInts_11 post p k q k n (nI i)) (fun _ _ => True) k 0 () (by omega) trivial
    (fun n _ _ => pk_le k k (fun _ => H) (fun z => absurd z (by omega)))
    (fun n i _ hi _ hw => pk_le k i (fun z => absurd z (by omega)) (fun _ => ⟨pk_in i k hi, pk_in i k hi, br_t (by rw [nI_clamp (by omega)]; exact h i hi) (nm_r (nI_1 i) (hw () trivial))⟩)))
theorem ac_dif (f k : Nat) : nI (f + k) - nI f = nI k := by
  rw [pk_sub (Nat.le_add_right f k), Nat.add_sub_cancel_left]
theorem ac_min {n f k : Nat} (hn : n ≤ 7) (hf : f ≤ n) (hk : k ≤ 7) : (if nI k < Int32.ofNat n - nI f then nI k else Int32.ofNat n - nI f) = nI (min k (n - f)) := by
  show (if nI k < nI n - nI f then nI k else nI n - nI f) = nI (min k (n - f))
  rw [pk_sub hf]
  by_cases h : k < n - f
  · rw [if_pos (nI_lt h (by omega)), Nat.min_eq_left (by omega)]
  · rw [if_neg (nI_nlt (by omega) (by omega)), Nat.min_eq_right (by omega)]
/-- the copy of min k (n - f) places onto zeros is the row from f on -/
theorem ac_cpy {a : Nat → Int32} {n f k : Nat} (hf : f ≤ n) : ac_R a n f k (va_cpy a (fun _ => 0) f 0 (min k (n - f))) := by
  intro j hj
  by_cases h : f + j < n
  · rw [if_pos h, pk_cpy_in (by omega) (by omega), Nat.sub_zero]
  · rw [if_neg h, pk_cpy_out (by omega)]
theorem ac_copy {post : StJdf173 → Prop} {mc ms : Nat} {a : Nat → Int32} {n f k : Nat} (hn : n ≤ 7) (hf : f ≤ n) (hk : k ≤ 7) (hmc : 1 ≤ mc) (hms : 7 ≤ ms) (H : ∀ r, ac_R a n f k r → post (a, n, r, k)) : wpJ7_copyOfRangeInt_feecc_12e9d post mc ms (a, n) (nI f) (nI (f + k)) := by
  unfold wpJ7_copyOfRangeInt_feecc_12e9d wpJ7_checkLength_df160_48e5c
  refine br_t (nI_le (by omega) (by omega)) (nm_r (ac_dif f k) ?_)
  rw [ac_min hn hf hk, nI_clamp (show f < 2 ^ 31 by omega), nI_clamp (show min k (n - f) < 2 ^ 31 by omega), sb_cl0]
  exact ⟨nI_pos (by omega), nm_r (nI_clamp (by omega)) ⟨by omega, hmc, by omega, nI_pos (by omega), by decide, nI_pos (by omega), by omega, by omega, nm_e (H _ (ac_cpy hf))⟩⟩
theorem ac_10 {post : StJdf173 → Prop} {mc ms : Nat} {a : Nat → Int32} {n f k : Nat} (hn : n ≤ 7) (hf : f ≤ n) (hk : k ≤ 7) (hmc : 1 ≤ mc) (hms : 7 ≤ ms) (H : ∀ r, ac_R a n f k r → post (a, n, r, k)) : wJ7_copyOfRange_feecc_12e9d_10 post mc ms (nI f) (nI (f + k)) 0 0 a n := by
  unfold wJ7_copyOfRange_feecc_12e9d_10
  exact ⟨1, 7, by omega, by omega, ac_copy hn hf hk (by omega) (by omega) (fun r hr => H r hr)⟩
theorem ac_jdk {post : StJdf173 → Prop} {mc ms : Nat} {a : Nat → Int32} {n f k : Nat} (hn : n ≤ 7) (hf : f ≤ n) (hk : k ≤ 7) (hmc : 1 ≤ mc) (hms : 7 ≤ ms) (H : ∀ r, ac_R a n f k r → post (a, n, r, k)) : wpJ7_copyOfRange_feecc_12e9d post mc ms (a, n) (nI f) (nI (f + k)) := by
  have C := ac_10 hn hf hk hmc hms H
  unfold wpJ7_copyOfRange_feecc_12e9d
  refine pk_eq f 0 (fun z => pk_eq (f + k) n (fun z2 => ⟨hmc, by omega, ?_⟩) (fun _ => C)) (fun _ => C)
  have e : k = n := by omega
  subst e
  refine H a (fun j hj => ?_)
  rw [z, Nat.zero_add, if_pos hj]
/-- the component's range: the row from f on -/
theorem ac_x0 {post : St2 → Prop} {mc ms : Nat} {a : Nat → Int32} {n f k : Nat} (hn : n ≤ 7) (hf : f ≤ n) (hk : k ≤ 7) (hmc : 1 ≤ mc) (hms : 7 ≤ ms) (H : ∀ r, ac_R a n f k r → post (a, n, r, k)) : wpX0_range post mc ms (a, n) (nI f) (nI (f + k)) := by
  unfold wpX0_range
  exact ⟨1, 7, by omega, by omega, ac_jdk hn hf hk (by omega) (by omega) (fun r hr => H r hr)⟩
/-- the twin's loop, place i copied: the row cut at i + 1 -/
theorem ac_put {a s : Nat → Int32} {f k i : Nat} (h : ac_R a i f k s) (h1 : f ≤ i) (h2 : i < f + k) : ac_R a (i + 1) f k (upd s (i - f) (a i)) := by
  intro j hj
  by_cases e : j = i - f
  · rw [e, pk_us, if_pos (by omega), show f + (i - f) = i by omega]
  · rw [pk_un e, h j hj]
    by_cases g : f + j < i
    · rw [if_pos g, if_pos (by omega)]
    · rw [if_neg g, if_neg (by omega)]
/-- place i passed over -/
theorem ac_skip {a s : Nat → Int32} {f k i : Nat} (h : ac_R a i f k s) (h1 : i < f ∨ f + k ≤ i) : ac_R a (i + 1) f k s := by
  intro j hj
  rw [h j hj]
  by_cases g : f + j < i
  · rw [if_pos g, if_pos (by omega)]
  · rw [if_neg g, if_neg (by omega)]
/-- the twin's range: the row from f on -/
theorem ac_x1 {post : St2 → Prop} {mc ms : Nat} {a : Nat → Int32} {n f k : Nat} (hn : n ≤ 7) (hf : f ≤ n) (hk : k ≤ 7) (hmc : 1 ≤ mc) (hms : 7 ≤ ms) (H : ∀ r, ac_R a n f k r → post (a, n, r, k)) : wpX1_range post mc ms (a, n) (nI f) (nI (f + k)) := by
  unfold wpX1_range
  dsimp only
  rw [ac_dif f k]
  refine ⟨nI_pos (by omega), nm_r (nI_clamp (by omega)) ⟨by omega, hmc, by omega, ?_⟩⟩
  exact pk_loop (fun m i s => wX1_range_9 post mc ms (nI f) (nI (f + k)) 1 (0 + k) n k m (nI i) a s) (fun i s => ac_R a i f k s) n 0 (fun _ => 0) (by omega) (fun j _ => by rw [if_neg (by omega)])
    (fun m s h => pk_le n n (fun _ => H s h) (fun z => absurd z (by omega)))
    (fun m i s hi h hw => pk_le n i (fun z => absurd z (by omega)) (fun _ => pk_lt i f (fun z => nm_r (nI_1 i) (hw s (ac_skip h (Or.inl z)))) (fun z => pk_le (f + k) i (fun z2 => nm_r (nI_1 i) (hw s (ac_skip h (Or.inr z2)))) (fun z2 => ⟨pk_in i n hi, pk_in (i - f) k (by omega) (pk_sub z), nm_r (by rw [pk_sub z, nI_clamp (by omega), nI_clamp (by omega)]) (nm_r (nI_1 i) (hw _ (ac_put h z z2)))⟩))))
end
section
/-- behind mix: an array of n ≤ 7 places, a start f ≤ n -/
theorem ac_28 {post : Int32 → St0 → Prop} {mc ms kc ks : Nat} {x3 : Int32} {a : Nat → Int32} {n f : Nat} (hn : n ≤ 7) (hf : f ≤ n) (hmc : kc + 2 ≤ mc) (hms : ks + 14 ≤ ms) (H : post 1 ()) : wL_lawOf_28 post mc ms x3 (nI f) kc ks a n := by
  unfold wL_lawOf_28
  obtain ⟨k, hk, e⟩ := pk_andE ((x3.toUInt32 >>> ((3 : Int32).toUInt32 &&& Int32.toUInt32 31)).toInt32) (m := 7) 3 (by decide)
  have hk7 : k ≤ 7 := by omega
  rw [e]
  refine nm_r (nI_add f k) ⟨1, 7, by omega, by omega, ac_x0 hn hf hk7 (by omega) (by omega) (fun p hp => ?_)⟩
  refine ⟨1, 7, by omega, by omega, ac_x1 hn hf hk7 (by omega) (by omega) (fun q hq => ?_)⟩
  exact ac_eqI hk7 (ac_same hp hq) ⟨rfl, H⟩
theorem ac_lawOf {post : Int32 → St0 → Prop} {mc ms : Nat} {p0 p1 p2 p3 : Int32} (hmc : 3 ≤ mc) (hms : 21 ≤ ms) (H : post 1 ()) : wpL_lawOf post mc ms () p0 p1 p2 p3 := by
  unfold wpL_lawOf
  refine ⟨1, 7, by omega, by omega, ac_mix (by omega) (by omega) (fun a n hn => ?_)⟩
  obtain ⟨t, ht, e⟩ := pk_andE p3 (m := 7) 3 (by decide)
  have ht7 : t ≤ 7 := by omega
  dsimp only
  rw [e]
  exact pk_le t n (fun z => ac_28 hn z (by omega) (by omega) H) (fun _ => ac_28 hn (Nat.le_refl n) (by omega) (by omega) H)
theorem i_vc (xs : Nat → Int32) (L : Nat) (hL : L ≤ 4) : wpL_law (fun r => r = 1) L xs := by
  unfold wpL_law
  exact ac_cell 0 (by decide) hL (fun _ => ac_cell 1 (by decide) hL (fun _ => ac_cell 2 (by decide) hL (fun _ => ac_cell 3 (by decide) hL (fun _ => ⟨3, 21, by decide, by decide, ac_lawOf (by decide) (by decide) rfl⟩))))
end
