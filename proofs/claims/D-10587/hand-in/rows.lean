section
/-! the pure picture: a code k below 4096 holds four parts of three bits each; a set of marks is a natural below 2048 -/
def cd_pp (k j : Nat) : Nat := k / 8 ^ j % 8
def cd_ps (k : Nat) : Nat → Nat
  | 0 => 0
  | j + 1 => cd_ps k j + cd_pp k j
def cd_ok (k : Nat) : Prop := cd_pp k 1 ≤ cd_pp k 0 ∧ cd_pp k 2 ≤ cd_pp k 1 ∧ cd_pp k 3 ≤ cd_pp k 2
def cd_rd (k : Nat) : Nat := if cd_pp k 1 ≤ cd_pp k 0 ∧ cd_pp k 2 ≤ cd_pp k 1 ∧ cd_pp k 3 ≤ cd_pp k 2 ∧ cd_ps k 4 ≤ 7 then cd_ps k 4 else 0
theorem cd_pp_lt (k j : Nat) : cd_pp k j < 8 := Nat.mod_lt _ (by decide)
theorem cd_rd_le (k : Nat) : cd_rd k ≤ 7 := by
  unfold cd_rd
  split
  · next h => exact h.2.2.2
  · exact Nat.zero_le 7
theorem cd_ps_le (k : Nat) : ∀ j, cd_ps k j ≤ 8 * j := by
  intro j
  induction j with
  | zero => exact Nat.le_refl 0
  | succ j ih =>
    have h := cd_pp_lt k j
    show cd_ps k j + cd_pp k j ≤ 8 * (j + 1)
    omega
def cd_cnt (v : Nat) : Nat → Nat
  | 0 => 0
  | i + 1 => cd_cnt v i + (if cd_rd (i + 1) = v then 1 else 0)
def cd_blk (v s : Nat) : Nat → Nat
  | 0 => 0
  | m + 1 => cd_blk v s m + (if cd_rd (s + m + 1) = v then 1 else 0)
theorem cd_cnt_blk (v s : Nat) : ∀ m, cd_cnt v (s + m) = cd_cnt v s + cd_blk v s m := by
  intro m
  induction m with
  | zero => rfl
  | succ m ih =>
    show cd_cnt v (s + m) + (if cd_rd (s + m + 1) = v then 1 else 0) = cd_cnt v s + (cd_blk v s m + (if cd_rd (s + m + 1) = v then 1 else 0))
    rw [ih, Nat.add_assoc]
def cd_big (v : Nat) : Nat → Nat
  | 0 => 0
  | j + 1 => cd_big v j + cd_blk v (65 * j) 65
theorem cd_cnt_big (v : Nat) : ∀ j, cd_cnt v (65 * j) = cd_big v j := by
  intro j
  induction j with
  | zero => rfl
  | succ j ih =>
    show cd_cnt v (65 * j + 65) = cd_big v j + cd_blk v (65 * j) 65
    rw [cd_cnt_blk, ih]
theorem cd_big_1 : cd_big 1 63 = 1 := by decide +kernel
theorem cd_big_2 : cd_big 2 63 = 2 := by decide +kernel
theorem cd_big_3 : cd_big 3 63 = 3 := by decide +kernel
theorem cd_big_4 : cd_big 4 63 = 5 := by decide +kernel
theorem cd_big_5 : cd_big 5 63 = 6 := by decide +kernel
theorem cd_big_6 : cd_big 6 63 = 9 := by decide +kernel
theorem cd_big_7 : cd_big 7 63 = 11 := by decide +kernel
theorem cd_cnt_all {v w : Nat} (h : cd_big v 63 = w) : cd_cnt v 4095 = w := by
  rw [← h]
  exact cd_cnt_big v 63
theorem cd_cnt_le (v : Nat) : ∀ i, cd_cnt v i ≤ i := by
  intro i
  induction i with
  | zero => exact Nat.le_refl 0
  | succ i ih =>
    show cd_cnt v i + (if cd_rd (i + 1) = v then 1 else 0) ≤ i + 1
    split <;> omega
/-! sums of ten terms -/
def cd_sum (f : Nat → Nat) : Nat → Nat
  | 0 => 0
  | n + 1 => cd_sum f n + f n
theorem cd_sum_c {f g : Nat → Nat} : ∀ {n : Nat}, (∀ c, c < n → f c = g c) → cd_sum f n = cd_sum g n := by
  intro n
  induction n with
  | zero => intro _; rfl
  | succ n ih =>
    intro h
    show cd_sum f n + f n = cd_sum g n + g n
    rw [ih (fun c hc => h c (by omega)), h n (by omega)]
theorem cd_sum_1 {f g : Nat → Nat} {b d : Nat} : ∀ {n : Nat}, b < n → (∀ c, c < n → c ≠ b → g c = f c) → g b = f b + d → cd_sum g n = cd_sum f n + d := by
  intro n
  induction n with
  | zero => intro h; exact absurd h (by omega)
  | succ n ih =>
    intro hb h hd
    show cd_sum g n + g n = cd_sum f n + f n + d
    by_cases e : n = b
    · subst e
      rw [cd_sum_c (f := g) (g := f) (fun c hc => h c (by omega) (by omega)), hd]
      omega
    · rw [ih (by omega) (fun c hc hn => h c (by omega) hn) hd, h n (by omega) e]
      omega
theorem cd_sum_0 {f : Nat → Nat} : ∀ {n : Nat}, (∀ c, c < n → f c = 0) → cd_sum f n = 0 := by
  intro n
  induction n with
  | zero => intro _; rfl
  | succ n ih =>
    intro h
    show cd_sum f n + f n = 0
    rw [ih (fun c hc => h c (by omega)), h n (by omega)]
/-! one rim of length one: cd_N A x is how often x is come to out of A; cd_T A i b x the same, of the sets below i, and of i by its marks 1 .. b -/
def cd_N (A : Nat → Nat) (x : Nat) : Nat := cd_sum (fun c => if x / 2 ^ c % 4 = 1 then A (x + 2 ^ c) else 0) 10
def cd_T (A : Nat → Nat) (i b x : Nat) : Nat := cd_sum (fun c => if x / 2 ^ c % 4 = 1 ∧ (x + 2 ^ c < i ∨ (x + 2 ^ c = i ∧ c < b)) then A (x + 2 ^ c) else 0) 10
theorem cd_T0 (A : Nat → Nat) (x : Nat) : cd_T A 0 0 x = 0 :=
  cd_sum_0 (fun c _ => if_neg (fun h => by
    rcases h.2 with q | q
    · exact absurd q (Nat.not_lt_zero _)
    · exact absurd q.2 (Nat.not_lt_zero _)))
theorem cd_Tt (A : Nat → Nat) {i b x : Nat} (hb : b < 10) (h : x + 2 ^ b = i) (hx : x / 2 ^ b % 4 = 1) : cd_T A i (b + 1) x = cd_T A i b x + A i := by
  refine cd_sum_1 (b := b) hb (fun c _ hn => ?_) ?_
  · by_cases e : x / 2 ^ c % 4 = 1 ∧ (x + 2 ^ c < i ∨ (x + 2 ^ c = i ∧ c < b))
    · rw [if_pos e, if_pos ⟨e.1, by have := e.2; omega⟩]
    · rw [if_neg e, if_neg (fun g => e ⟨g.1, by have := g.2; omega⟩)]
  · show (if x / 2 ^ b % 4 = 1 ∧ (x + 2 ^ b < i ∨ (x + 2 ^ b = i ∧ b < b + 1)) then A (x + 2 ^ b) else 0) = (if x / 2 ^ b % 4 = 1 ∧ (x + 2 ^ b < i ∨ (x + 2 ^ b = i ∧ b < b)) then A (x + 2 ^ b) else 0) + A i
    rw [if_pos ⟨hx, by omega⟩, if_neg (fun g => by have := g.2; omega), h, Nat.zero_add]
theorem cd_Tf (A : Nat → Nat) {i b x : Nat} (h : ¬ (x + 2 ^ b = i ∧ x / 2 ^ b % 4 = 1)) : cd_T A i (b + 1) x = cd_T A i b x := by
  refine cd_sum_c (fun c _ => ?_)
  by_cases e : x / 2 ^ c % 4 = 1 ∧ (x + 2 ^ c < i ∨ (x + 2 ^ c = i ∧ c < b))
  · rw [if_pos e, if_pos ⟨e.1, by have := e.2; omega⟩]
  · rw [if_neg e, if_neg (fun g => ?_)]
    by_cases hc : c = b
    · subst hc
      rcases g.2 with q | q
      · exact e ⟨g.1, Or.inl q⟩
      · exact h ⟨q.1, g.1⟩
    · exact e ⟨g.1, by have := g.2; omega⟩
theorem cd_Te (A : Nat → Nat) (i x : Nat) : cd_T A (i + 1) 0 x = cd_T A i 10 x := by
  refine cd_sum_c (fun c hc => ?_)
  by_cases e : x / 2 ^ c % 4 = 1 ∧ (x + 2 ^ c < i ∨ (x + 2 ^ c = i ∧ c < 10))
  · rw [if_pos e, if_pos ⟨e.1, by have := e.2; omega⟩]
  · rw [if_neg e, if_neg (fun g => e ⟨g.1, by have := g.2; omega⟩)]
theorem cd_up {x c : Nat} (hc : c < 10) (hx : x < 2048) (h : x / 2 ^ c % 4 = 1) : x + 2 ^ c < 2048 := by
  rcases (by omega : c = 0 ∨ c = 1 ∨ c = 2 ∨ c = 3 ∨ c = 4 ∨ c = 5 ∨ c = 6 ∨ c = 7 ∨ c = 8 ∨ c = 9) with e | e | e | e | e | e | e | e | e | e <;> subst e <;> simp only [Nat.reducePow] at h ⊢ <;> omega
theorem cd_TN (A : Nat → Nat) {x : Nat} (hx : x < 2048) : cd_T A 2048 0 x = cd_N A x := by
  refine cd_sum_c (fun c hc => ?_)
  by_cases e : x / 2 ^ c % 4 = 1
  · rw [if_pos e, if_pos ⟨e, Or.inl (cd_up hc hx e)⟩]
  · rw [if_neg e, if_neg (fun g => e g.1)]
theorem cd_bits {x i c : Nat} (h : x + 2 ^ c = i) : x / 2 ^ c % 4 = 1 ↔ (¬ i / 2 ^ (c + 1) % 2 = 0 ∧ i / 2 ^ c % 2 = 0) := by
  have h1 : i / 2 ^ c = x / 2 ^ c + 1 := by rw [← h, Nat.add_div_right _ (Nat.two_pow_pos c)]
  have h2 : i / 2 ^ (c + 1) = i / 2 ^ c / 2 := by rw [Nat.pow_succ, Nat.div_div_eq_div_mul]
  rw [h2, h1]
  generalize x / 2 ^ c = q
  omega
/-! the whole: k rims of length one taken away from S in all ways -/
def cd_G (S : Nat) : Nat → Nat → Nat
  | 0 => fun x => if x = S then 1 else 0
  | k + 1 => fun x => cd_N (cd_G S k) x
def cd_mk (k : Nat) : Nat → Nat
  | 0 => 0
  | j + 1 => cd_mk k j ||| 2 ^ (cd_pp k j + 3 - j)
theorem cd_fin : (List.range 4096).all (fun k => decide (cd_rd k = 0 ∨ (1 ≤ cd_G (cd_mk k 4) (cd_rd k) 15 ∧ cd_G (cd_mk k 4) (cd_rd k) 15 < 1000 ∧ cd_mk k 4 < 2048))) = true := by decide +kernel
end
section
theorem cd_and (a b : Nat) : nI a &&& nI b = nI (a &&& b) := by
  apply Int32.toBitVec_inj.1
  show BitVec.ofNat 32 a &&& BitVec.ofNat 32 b = BitVec.ofNat 32 (a &&& b)
  apply BitVec.eq_of_getLsbD_eq
  intro i hi
  simp [hi]
theorem cd_or (a b : Nat) : nI a ||| nI b = nI (a ||| b) := by
  apply Int32.toBitVec_inj.1
  show BitVec.ofNat 32 a ||| BitVec.ofNat 32 b = BitVec.ofNat 32 (a ||| b)
  apply BitVec.eq_of_getLsbD_eq
  intro i hi
  simp [hi]
theorem cd_xor (a b : Nat) : nI a ^^^ nI b = nI (a ^^^ b) := by
  apply Int32.toBitVec_inj.1
  show BitVec.ofNat 32 a ^^^ BitVec.ofNat 32 b = BitVec.ofNat 32 (a ^^^ b)
  apply BitVec.eq_of_getLsbD_eq
  intro i hi
  simp [hi]
theorem cd_sl : ∀ n, n < 32 → ((nI n &&& 31).toBitVec.smod 32).toNat = n := by decide +kernel
theorem cd_i8 : ∀ v, v < 8 → (nI v).toInt8.toInt32 = nI v := by decide +kernel
theorem cd_bit {i b : Nat} (hi : i < 2048) (hb : b < 32) : (nI i >>> (nI b &&& 31)) &&& 1 = nI (i / 2 ^ b % 2) := by
  rw [pk_shrN (by omega) (nI b &&& 31) b (cd_sl b hb)]
  have h : i / 2 ^ b ≤ i := Nat.div_le_self _ _
  exact pk_andN (by omega) (m := 1) 1 (by decide)
theorem cd_one {b : Nat} (hb : b < 31) : (1 : Int32) <<< (nI b &&& 31) = nI (2 ^ b) := by
  have h : 2 ^ b < 2 ^ 31 := Nat.pow_lt_pow_right (by decide) hb
  have e := pk_shlN (n := 1) (nI b &&& 31) b (cd_sl b (by omega)) (by omega)
  rw [Nat.one_mul] at e
  exact e
theorem cd_nx : (List.range 2048).all (fun i => (List.range 10).all (fun c => decide (i / 2 ^ c % 4 = 2 → (i &&& (2 ^ (c + 1) ^^^ 4294967295)) ||| 2 ^ c = i - 2 ^ c))) = true := by decide +kernel
theorem cd_next {i c : Nat} (hi : i < 2048) (hc : c < 10) (h1 : ¬ i / 2 ^ (c + 1) % 2 = 0) (h0 : i / 2 ^ c % 2 = 0) : (nI i &&& (((1 : Int32) <<< (nI (c + 1) &&& 31)) ^^^ (-1))) ||| ((1 : Int32) <<< (nI c &&& 31)) = nI (i - 2 ^ c) := by
  rw [cd_one (by omega), cd_one (by omega)]
  have e : (-1 : Int32) = nI 4294967295 := by decide
  rw [e, cd_xor, cd_and, cd_or]
  have h2 : i / 2 ^ (c + 1) = i / 2 ^ c / 2 := by rw [Nat.pow_succ, Nat.div_div_eq_div_mul]
  have h4 : i / 2 ^ c % 4 = 2 := by
    rw [h2] at h1
    revert h1 h0
    generalize i / 2 ^ c = q
    omega
  have t := List.all_eq_true.mp cd_nx i (List.mem_range.mpr hi)
  have t2 := List.all_eq_true.mp t c (List.mem_range.mpr hc)
  rw [of_decide_eq_true t2 h4]
theorem cd_ge {i c : Nat} (h1 : ¬ i / 2 ^ (c + 1) % 2 = 0) : 2 ^ c ≤ i := by
  rcases Nat.lt_or_ge i (2 ^ c) with z | z
  · have h2 : i / 2 ^ (c + 1) = i / 2 ^ c / 2 := by rw [Nat.pow_succ, Nat.div_div_eq_div_mul]
    rw [h2, Nat.div_eq_of_lt z] at h1
    exact absurd rfl h1
  · exact z
theorem cd_field {k i : Nat} (hk : k < 4096) (hi : i < 4) : ((nI k >>> ((3 * nI i) &&& 31)) &&& 7).toInt8.toInt32 = nI (cd_pp k i) := by
  have e3 : (3 : Int32) * nI i = nI (3 * i) := pk_mul 3 i
  rw [e3, pk_shrN (by omega) (nI (3 * i) &&& 31) (3 * i) (cd_sl (3 * i) (by omega))]
  have h : k / 2 ^ (3 * i) ≤ k := Nat.div_le_self _ _
  rw [pk_andN (by omega) (m := 7) 3 (by decide)]
  have e8 : (2 : Nat) ^ (3 * i) = 8 ^ i := by rw [Nat.pow_mul]
  rw [e8]
  exact cd_i8 _ (Nat.mod_lt _ (by decide))
end
section
theorem cd_fill {f s : Nat → Int32} {i : Nat} {x : Int32} (h : ∀ j, j < i → s j = f j) (hx : x = f i) : ∀ j, j < i + 1 → upd s i x j = f j := by
  intro j hj
  by_cases e : j = i
  · rw [e, pk_us, hx]
  · rw [pk_un e]
    exact h j (by omega)
/-! read -/
theorem cd_read_in {post : Int32 → St2 → Prop} {fc fr : Int32} {a1 a2 a3 a4 : Nat → Int32} {k : Nat} (hk : k < 4096)
    (H : ∀ a, (cd_rd k ≠ 0 → ∀ j, j < 4 → a j = nI (cd_pp k j)) → post (nI (cd_rd k)) (fc, fr, a, a2, a3, a4)) :
    wpX_read post (fc, fr, a1, a2, a3, a4) (nI k) := by
  have H0 : cd_rd k = 0 → ∀ a, post 0 (fc, fr, a, a2, a3, a4) := by
    intro e a
    have t := H a (fun g => absurd e g)
    rw [e] at t
    exact t
  have L : ∃ n, wX_read_17 post (nI k) fc fr n 0 0 a1 a2 a3 a4 := by
    refine pk_loop (fun n i s => wX_read_17 post (nI k) fc fr n (nI (cd_ps k i)) (nI i) s a2 a3 a4) (fun i s => (∀ j, j < i → s j = nI (cd_pp k j)) ∧ (∀ j, j + 1 < i → cd_pp k (j + 1) ≤ cd_pp k j)) 4 0 a1 (by omega) ⟨fun j hj => absurd hj (by omega), fun j hj => absurd hj (by omega)⟩ ?_ ?_
    · intro n s h
      have hs := cd_ps_le k 4
      refine pk_le 4 4 (fun _ => ?_) (fun z => absurd z (by omega))
      refine pk_lt 7 (cd_ps k 4) (fun z => H0 (if_neg (fun g => absurd g.2.2.2 (by omega))) s) (fun z => ?_)
      have e : cd_rd k = cd_ps k 4 := if_pos ⟨h.2 0 (by omega), h.2 1 (by omega), h.2 2 (by omega), z⟩
      have t := H s (fun _ => h.1)
      rw [e] at t
      exact t
    · intro n i s hi h hw
      have c : (nI i).toNatClampNeg = i := nI_clamp (by omega)
      have F : ∀ j, j < i + 1 → upd s i (nI (cd_pp k i)) j = nI (cd_pp k j) := cd_fill (f := fun j => nI (cd_pp k j)) h.1 rfl
      refine pk_le 4 i (fun z => absurd z (by omega)) (fun _ => ⟨pk_in i 4 hi, nm_r (e' := upd s i (nI (cd_pp k i))) (by rw [c, cd_field hk hi]) ⟨pk_in i 4 hi, nm_r (e' := nI (cd_ps k (i + 1))) (by rw [c, pk_us, nI_add]; rfl) ?_⟩⟩)
      refine pk_le i 0 (fun z => nm_r (nI_1 i) (hw _ ⟨F, fun j hj => absurd hj (by omega)⟩)) (fun z => ⟨pk_in i 4 hi, ?_⟩)
      obtain ⟨q, rfl⟩ : ∃ q, i = q + 1 := ⟨i - 1, by omega⟩
      have cq : (nI (q + 1) - 1).toNatClampNeg = q := by rw [nI_pred, nI_clamp (by omega)]
      have p1 := cd_pp_lt k (q + 1)
      have p0 := cd_pp_lt k q
      refine ⟨pk_in q 4 (by omega) (nI_pred q), pk_le (cd_pp k (q + 1)) (cd_pp k q) (fun g => nm_r (nI_1 _) (hw _ ⟨F, fun j hj => ?_⟩)) (fun g => H0 (if_neg (fun g' => ?_)) _) (by rw [c]; exact F (q + 1) (by omega)) (by rw [cq]; exact F q (by omega))⟩
      · by_cases e : j = q
        · rw [e]
          exact g
        · exact h.2 j (by omega)
      · rcases (by omega : q = 0 ∨ q = 1 ∨ q = 2) with e | e | e <;> subst e
        · exact absurd g'.1 (Nat.not_le.mpr g)
        · exact absurd g'.2.1 (Nat.not_le.mpr g)
        · exact absurd g'.2.2.1 (Nat.not_le.mpr g)
  exact pk_lt k 0 (fun z => absurd z (by omega)) (fun _ => pk_le k 4095 (fun _ => L) (fun z => absurd z (by omega)))
/-- the answer of read at any int -/
def cd_V (x : Int32) : Nat := if x < 0 ∨ ¬ x ≤ 4095 then 0 else cd_rd x.toNatClampNeg
theorem cd_V_in {k : Nat} (hk : k < 4096) : cd_V (nI k) = cd_rd k := by
  unfold cd_V
  rw [if_neg, nI_clamp (by omega)]
  intro g
  rcases g with g | g
  · exact nI_pos (by omega) g
  · exact g (nI_le (b := 4095) (by omega) (by decide))
theorem cd_V_le (x : Int32) : cd_V x ≤ 7 := by
  unfold cd_V
  split
  · exact Nat.zero_le 7
  · exact cd_rd_le _
theorem cd_V_of {x : Int32} (h : ¬ (x < 0 ∨ ¬ x ≤ 4095)) : ∃ k : Nat, k < 4096 ∧ x = nI k := by
  obtain ⟨j, hj, e⟩ := nI_of2 (x := x) (M := 4095) (n := 4095) (by decide) (fun z => h (Or.inl z)) (Classical.byContradiction (fun z => h (Or.inr z)))
  exact ⟨j, by omega, e⟩
theorem cd_read {post : Int32 → St2 → Prop} {fc fr : Int32} {a1 a2 a3 a4 : Nat → Int32} {x : Int32}
    (H : ∀ a, (cd_V x ≠ 0 → ∃ k : Nat, k < 4096 ∧ cd_rd k = cd_V x ∧ ∀ j, j < 4 → a j = nI (cd_pp k j)) → post (nI (cd_V x)) (fc, fr, a, a2, a3, a4)) :
    wpX_read post (fc, fr, a1, a2, a3, a4) x := by
  by_cases h : x < 0 ∨ ¬ x ≤ 4095
  · have e : cd_V x = 0 := if_pos h
    have t := H a1 (fun g => absurd e g)
    rw [e] at t
    exact br_c (fun _ => t) (fun z => br_c (fun z2 => absurd z2 (h.resolve_left z)) (fun _ => t))
  · obtain ⟨k, hk, rfl⟩ := cd_V_of h
    refine cd_read_in hk (fun a ha => ?_)
    have e := cd_V_in hk
    have t := H a (fun g => ⟨k, hk, e.symm, ha (by rw [← e]; exact g)⟩)
    rw [e] at t
    exact t
/-! wantOnes -/
theorem cd_ones {post : St2 → Prop} {fc fr : Int32} {a1 a2 a3 a4 : Nat → Int32} {m : Nat} (hm : m ≤ 7)
    (H : ∀ a, (∀ j, j < m → a j = 1) → post (fc, nI m, a1, a, a3, a4)) : wpX_wantOnes post (fc, fr, a1, a2, a3, a4) (nI m) := by
  have L : ∃ n, wX_wantOnes_7 post (nI m) fc (nI m) n 0 a1 a2 a3 a4 := by
    refine pk_loop (fun n i s => wX_wantOnes_7 post (nI m) fc (nI m) n (nI i) a1 s a3 a4) (fun i s => ∀ j, j < i → s j = 1) m 0 a2 (by omega) (fun j hj => absurd hj (by omega)) ?_ ?_
    · intro n s h
      exact pk_le m m (fun _ => H s h) (fun z => absurd z (by omega))
    · intro n i s hi h hw
      refine pk_le m i (fun z => absurd z (by omega)) (fun _ => ⟨pk_in i 8 (by omega), nm_r (e' := upd s i 1) (by rw [nI_clamp (by omega)]) (nm_r (nI_1 i) (hw _ (cd_fill (f := fun _ => 1) h rfl)))⟩)
  exact L
/-! marks -/
theorem cd_marks {post : Int32 → Prop} {fc fr : Int32} {a1 a2 a3 a4 : Nat → Int32} {k : Nat} (h : ∀ j, j < 4 → a1 j = nI (cd_pp k j))
    (H : post (nI (cd_mk k 4))) : wpX_marks post (fc, fr, a1, a2, a3, a4) := by
  have L : ∃ n, wX_marks_4 post fc fr a1 a2 a3 a4 n 0 0 := by
    refine pk_loop (σ := Unit) (fun n i _ => wX_marks_4 post fc fr a1 a2 a3 a4 n (nI (cd_mk k i)) (nI i)) (fun _ _ => True) 4 0 () (by omega) trivial ?_ ?_
    · intro n s _
      exact pk_le 4 4 (fun _ => H) (fun z => absurd z (by omega))
    · intro n i s hi _ hw
      refine pk_le 4 i (fun z => absurd z (by omega)) (fun _ => ⟨pk_in i 4 hi, nm_r (e' := nI (cd_mk k (i + 1))) ?_ (nm_r (nI_1 i) (hw () trivial))⟩)
      have p := cd_pp_lt k i
      have e1 : (((a1 (nI i).toNatClampNeg) + 4) - 1) - nI i = nI (cd_pp k i + 3 - i) := by
        rw [nI_clamp (by omega), h i hi]
        have e4 : nI (cd_pp k i) + 4 = nI (cd_pp k i + 3 + 1) := nI_add (cd_pp k i) 4
        rw [e4, nI_pred, pk_sub (by omega)]
      rw [e1, cd_one (by omega), cd_or]
      rfl
  exact L
/-! isNumber, count -/
theorem cd_isN {post : Int32 → Prop} {v : Nat} (h1 : 1 ≤ v) (h7 : v ≤ 7) (H : post 1) : wpX_isNumber post () (nI v) :=
  pk_lt v 1 (fun z => absurd z (by omega)) (fun _ => pk_lt 7 v (fun z => absurd z (by omega)) (fun _ => H))
theorem cd_count_in {post : Int32 → St2 → Prop} {fc fr : Int32} {a1 a2 a3 a4 : Nat → Int32} {v E : Nat} (h1 : 1 ≤ v) (h7 : v ≤ 7) (hE : E = 4095)
    (H : ∀ a, post (nI (cd_cnt v E)) (fc, fr, a, a2, a3, a4)) : wpX_count post (fc, fr, a1, a2, a3, a4) (nI v) := by
  have L : ∃ n, wX_count_4 post (nI v) n 0 1 fc fr a1 a2 a3 a4 := by
    refine pk_loop (fun n i s => wX_count_4 post (nI v) n (nI (cd_cnt v i)) (nI (i + 1)) fc fr s a2 a3 a4) (fun _ _ => True) E 0 a1 (by omega) trivial ?_ ?_
    · intro n s _
      exact pk_le 4096 (E + 1) (fun _ => H s) (fun z => absurd z (by omega))
    · intro n i s hi _ hw
      refine pk_le 4096 (i + 1) (fun z => absurd z (by omega)) (fun _ => cd_isN h1 h7 (br_f (by decide) (cd_read_in (by omega) (fun a _ => ?_))))
      have hr := cd_rd_le (i + 1)
      refine pk_eq (cd_rd (i + 1)) v (fun z => nm_r (e' := nI (cd_cnt v (i + 1))) ?_ (nm_r (nI_1 _) (hw a trivial))) (fun z => nm_r (e' := nI (cd_cnt v (i + 1))) ?_ (nm_r (nI_1 _) (hw a trivial)))
      · show nI (cd_cnt v i) + 1 = nI (cd_cnt v i + (if cd_rd (i + 1) = v then 1 else 0))
        rw [if_pos z, nI_1]
      · show nI (cd_cnt v i) + 0 = nI (cd_cnt v i + (if cd_rd (i + 1) = v then 1 else 0))
        rw [if_neg z, Int32.add_zero, Nat.add_zero]
  exact L
theorem cd_count_out {post : Int32 → St2 → Prop} {fc fr : Int32} {a1 a2 a3 a4 : Nat → Int32} {x : Int32} (h : x < 1 ∨ 7 < x)
    (H : ∀ a, post 0 (fc, fr, a, a2, a3, a4)) : wpX_count post (fc, fr, a1, a2, a3, a4) x := by
  have I : ∀ p : Int32 → Prop, p 0 → wpX_isNumber p () x := fun p hp => br_c (fun _ => hp) (fun z => br_t (h.resolve_left z) hp)
  have L : ∃ n, wX_count_4 post x n 0 1 fc fr a1 a2 a3 a4 :=
    ⟨1, pk_le 4096 1 (fun z => absurd z (by omega)) (fun _ => I _ (br_t rfl (H a1)))⟩
  exact L
end
section
/-! move, a rim of length one -/
theorem cd_move {post : St2 → Prop} {fc fr : Int32} {a1 a2 a3 a4 : Nat → Int32} (A : Nat → Nat) {i : Nat} (hi : i < 2048) (h3 : a3 i = nI (A i))
    (h4 : ∀ x, x < 2048 → a4 x = nI (cd_T A i 0 x)) (H : ∀ a, (∀ x, x < 2048 → a x = nI (cd_T A i 10 x)) → post (fc, fr, a1, a2, a3, a)) :
    wpX_move post (fc, fr, a1, a2, a3, a4) (nI i) 1 := by
  have L : ∃ n, wX_move_2 post (nI i) 1 fc fr n 1 a1 a2 a3 a4 := by
    refine pk_loop (fun n b s => wX_move_2 post (nI i) 1 fc fr n (nI (b + 1)) a1 a2 a3 s) (fun b s => ∀ x, x < 2048 → s x = nI (cd_T A i b x)) 10 0 a4 (by omega) h4 ?_ ?_
    · intro n s h
      exact pk_le 11 (10 + 1) (fun _ => H s h) (fun z => absurd z (by omega))
    · intro n b s hb h hw
      have no : (¬ i / 2 ^ (b + 1) % 2 = 0 → i / 2 ^ b % 2 = 0 → False) → ∀ x, x < 2048 → s x = nI (cd_T A i (b + 1) x) := by
        intro g x hx
        rw [h x hx, cd_Tf]
        intro q
        have t := (cd_bits q.1).mp q.2
        exact g t.1 t.2
      refine pk_le 11 (b + 1) (fun z => absurd z (by omega)) (fun _ => nm_r (nI_pred b) ?_)
      refine pk_eq (i / 2 ^ (b + 1) % 2) 0 (fun z => nm_r (nI_1 _) (hw s (no (fun g _ => g z)))) (fun z => ?_) (cd_bit hi (by omega))
      refine pk_eq (i / 2 ^ b % 2) 0 (fun z0 => ?_) (fun z0 => nm_r (nI_1 _) (hw s (no (fun _ g => z0 g)))) (cd_bit hi (by omega))
      have ge : 2 ^ b ≤ i := cd_ge z
      have pos : 0 < 2 ^ b := Nat.two_pow_pos b
      refine nm_r (nI_1 b) ⟨1, pk_le (b + 1) (b + 1) (fun _ => nm_r (cd_next hi hb z z0) ⟨pk_in (i - 2 ^ b) 2048 (by omega), br_t (by decide) ⟨pk_in i 2048 hi, pk_in (i - 2 ^ b) 2048 (by omega), nm_r (e' := upd s (i - 2 ^ b) (s (i - 2 ^ b) + a3 i)) (by rw [nI_clamp (by omega), nI_clamp (by omega)]) (nm_r (nI_1 _) (hw _ ?_))⟩⟩) (fun g => absurd g (by omega))⟩
      intro x hx
      by_cases e : x = i - 2 ^ b
      · have e2 : x + 2 ^ b = i := by omega
        rw [← e, pk_us, h x hx, h3, nI_add, cd_Tt A hb e2 ((cd_bits e2).mpr ⟨z, z0⟩)]
      · rw [pk_un e, h x hx, cd_Tf]
        intro q
        exact e (by omega)
  exact L
theorem cd_skip (A : Nat → Nat) {i : Nat} (h : nI (A i) = 0) (x : Nat) : ∀ b, b ≤ 10 → nI (cd_T A i b x) = nI (cd_T A i 0 x) := by
  intro b
  induction b with
  | zero => intro _; rfl
  | succ b ih =>
    intro hb
    by_cases q : x + 2 ^ b = i ∧ x / 2 ^ b % 4 = 1
    · rw [cd_Tt A (by omega) q.1 q.2, ← nI_add, h, Int32.add_zero]
      exact ih (by omega)
    · rw [cd_Tf A q]
      exact ih (by omega)
/-! strip: the loops from the last to the first -/
theorem cd_98 {post : Int32 → St2 → Prop} {J : Int32 → Int32 → Int32 → (Nat → Int32) → (Nat → Int32) → (Nat → Int32) → (Nat → Int32) → Prop} {k : Nat} {fc fr : Int32} {a1 a2 a3 a4 : Nat → Int32}
    (H : ∀ a, (∀ j, j < 2048 → a j = a4 j) → J (nI (k + 1)) fc fr a1 a2 a a4) : ∃ n, wX_strip_98 post J (nI k) fc fr n 0 a1 a2 a3 a4 := by
  refine pk_loop (fun n i s => wX_strip_98 post J (nI k) fc fr n (nI i) a1 a2 s a4) (fun i s => ∀ j, j < i → s j = a4 j) 2048 0 a3 (by omega) (fun j hj => absurd hj (by omega)) ?_ ?_
  · intro n s h
    exact pk_le 2048 2048 (fun _ => nm_r (nI_1 k) (H s h)) (fun z => absurd z (by omega))
  · intro n i s hi h hw
    exact pk_le 2048 i (fun z => absurd z (by omega)) (fun _ => ⟨pk_in i 2048 hi, pk_in i 2048 hi, nm_r (e' := upd s i (a4 i)) (by rw [nI_clamp (by omega)]) (nm_r (nI_1 i) (hw _ (cd_fill h rfl)))⟩)
theorem cd_63 {post : Int32 → St2 → Prop} {J : Int32 → Int32 → Int32 → (Nat → Int32) → (Nat → Int32) → (Nat → Int32) → (Nat → Int32) → Prop} {k : Nat} {fc fr : Int32} {a1 a2 a3 a4 : Nat → Int32} (A : Nat → Nat)
    (hk : k < 8) (h2 : a2 k = 1) (h3 : ∀ x, x < 2048 → a3 x = nI (A x)) (h4 : ∀ x, x < 2048 → a4 x = 0)
    (H : ∀ a b, (∀ x, x < 2048 → a x = nI (cd_N A x)) → J (nI (k + 1)) fc fr a1 a2 a b) : ∃ n, wX_strip_63 post J (nI k) n 0 fc fr a1 a2 a3 a4 := by
  refine pk_loop (fun n i s => wX_strip_63 post J (nI k) n (nI i) fc fr a1 a2 a3 s) (fun i s => ∀ x, x < 2048 → s x = nI (cd_T A i 0 x)) 2048 0 a4 (by omega) (fun x hx => by rw [cd_T0]; exact h4 x hx) ?_ ?_
  · intro n s h
    exact pk_le 2048 2048 (fun _ => cd_98 (fun a ha => H a s (fun x hx => by rw [ha x hx, h x hx, cd_TN A hx]))) (fun z => absurd z (by omega))
  · intro n i s hi h hw
    have c : (nI i).toNatClampNeg = i := nI_clamp (by omega)
    refine pk_le 2048 i (fun z => absurd z (by omega)) (fun _ => ⟨pk_in i 2048 hi, br_c (fun z => nm_r (nI_1 i) (hw s (fun x hx => ?_))) (fun z => ⟨pk_in k 8 hk, ?_⟩)⟩)
    · rw [c, h3 i hi] at z
      rw [cd_Te, cd_skip A z x 10 (by omega)]
      exact h x hx
    · rw [nI_clamp (show k < 2 ^ 31 by omega), h2]
      exact cd_move A hi (h3 i hi) h (fun a ha => nm_r (nI_1 i) (hw a (fun x hx => by rw [cd_Te]; exact ha x hx)))
theorem cd_41 {post : Int32 → St2 → Prop} {J : Int32 → Int32 → Int32 → (Nat → Int32) → (Nat → Int32) → (Nat → Int32) → (Nat → Int32) → Prop} {k : Nat} {fc fr : Int32} {a1 a2 a3 a4 : Nat → Int32} (A : Nat → Nat)
    (hk : k < 8) (h2 : a2 k = 1) (h3 : ∀ x, x < 2048 → a3 x = nI (A x))
    (H : ∀ a b, (∀ x, x < 2048 → a x = nI (cd_N A x)) → J (nI (k + 1)) fc fr a1 a2 a b) : ∃ n, wX_strip_41 post J (nI k) fc fr n 0 a1 a2 a3 a4 := by
  refine pk_loop (fun n i s => wX_strip_41 post J (nI k) fc fr n (nI i) a1 a2 a3 s) (fun i s => ∀ j, j < i → s j = 0) 2048 0 a4 (by omega) (fun j hj => absurd hj (by omega)) ?_ ?_
  · intro n s h
    exact pk_le 2048 2048 (fun _ => cd_63 A hk h2 h3 h H) (fun z => absurd z (by omega))
  · intro n i s hi h hw
    exact pk_le 2048 i (fun z => absurd z (by omega)) (fun _ => ⟨pk_in i 2048 hi, nm_r (e' := upd s i 0) (by rw [nI_clamp (by omega)]) (nm_r (nI_1 i) (hw _ (cd_fill (f := fun _ => 0) h rfl)))⟩)
theorem cd_31 {post : Int32 → St2 → Prop} {fc : Int32} {a1 a2 a3 a4 : Nat → Int32} {S m : Nat} (hm : m ≤ 7) (h2 : ∀ j, j < m → a2 j = 1) (h3 : ∀ x, x < 2048 → a3 x = nI (cd_G S 0 x))
    (H : ∀ r a b, r = nI (cd_G S m 15) → post r (fc, nI m, a1, a2, a, b)) : ∃ n, wX_strip_31 post n 0 fc (nI m) a1 a2 a3 a4 := by
  refine pk_loop (σ := (Nat → Int32) × (Nat → Int32)) (fun n k s => wX_strip_31 post n (nI k) fc (nI m) a1 a2 s.1 s.2) (fun k s => ∀ x, x < 2048 → s.1 x = nI (cd_G S k x)) m 0 (a3, a4) (by omega) h3 ?_ ?_
  · intro n s h
    exact pk_le m m (fun _ => H _ _ _ (h 15 (by omega))) (fun z => absurd z (by omega))
  · intro n k s hk h hw
    exact pk_le m k (fun z => absurd z (by omega)) (fun _ => cd_41 (cd_G S k) (by omega) (h2 k hk) h (fun a b hab => hw (a, b) hab))
theorem cd_strip {post : Int32 → St2 → Prop} {fc : Int32} {a1 a2 a3 a4 : Nat → Int32} {S m : Nat} (hS : S < 2048) (hm : m ≤ 7) (h2 : ∀ j, j < m → a2 j = 1)
    (H : ∀ r a b, r = nI (cd_G S m 15) → post r (fc, nI m, a1, a2, a, b)) : wpX_strip post (fc, nI m, a1, a2, a3, a4) (nI S) := by
  have L : ∃ n, wX_strip_2 post (nI S) fc (nI m) n 0 a1 a2 a3 a4 := by
    refine pk_loop (fun n i s => wX_strip_2 post (nI S) fc (nI m) n (nI i) a1 a2 s a4) (fun i s => ∀ j, j < i → s j = 0) 2048 0 a3 (by omega) (fun j hj => absurd hj (by omega)) ?_ ?_
    · intro n s h
      refine pk_le 2048 2048 (fun _ => ⟨pk_in S 2048 hS, nm_r (e' := upd s S 1) (by rw [nI_clamp (by omega)]) (cd_31 hm h2 (fun x hx => ?_) H)⟩) (fun z => absurd z (by omega))
      show upd s S 1 x = nI (if x = S then 1 else 0)
      by_cases e : x = S
      · rw [e, pk_us, if_pos rfl]
        rfl
      · rw [pk_un e, if_neg e]
        exact h x hx
    · intro n i s hi h hw
      exact pk_le 2048 i (fun z => absurd z (by omega)) (fun _ => ⟨pk_in i 2048 hi, nm_r (e' := upd s i 0) (by rw [nI_clamp (by omega)]) (nm_r (nI_1 i) (hw _ (cd_fill (f := fun _ => 0) h rfl)))⟩)
  exact L
end
section
theorem cd_degree {post : Int32 → St2 → Prop} {fc fr : Int32} {a1 a2 a3 a4 : Nat → Int32} {x : Int32}
    (H0 : cd_V x = 0 → ∀ c r b1 b2 b3 b4, post (-1000000) (c, r, b1, b2, b3, b4)) (H1 : cd_V x ≠ 0 → ∀ y c r b1 b2 b3 b4, ¬ y < 1 → post y (c, r, b1, b2, b3, b4)) :
    wpX_degree post (fc, fr, a1, a2, a3, a4) x := by
  unfold wpX_degree
  refine cd_read (fun a ha => ?_)
  have hV := cd_V_le x
  refine pk_eq (cd_V x) 0 (fun z => H0 z _ _ _ _ _ _) (fun z => cd_ones hV (fun b hb => ?_))
  obtain ⟨k, hk, ek, hp⟩ := ha z
  have t := of_decide_eq_true (List.all_eq_true.mp cd_fin k (List.mem_range.mpr hk))
  have t2 := t.resolve_left (by rw [ek]; exact z)
  rw [ek] at t2
  refine cd_marks hp (cd_strip t2.2.2 hV hb (fun r a' b' er => H1 z _ _ _ _ _ _ _ ?_))
  rw [er]
  exact nI_nlt (b := 1) t2.1 (by omega)
theorem cd_215 {mc ms kc ks : Nat} {x n x8 x9 x10 z0 fr : Int32} {a1 a2 a3 a4 : Nat → Int32}
    (hc : ∀ (post : Int32 → St2 → Prop) (fc fr : Int32) (a1 a2 a3 a4 : Nat → Int32), (∀ a, post z0 (fc, fr, a, a2, a3, a4)) → wpX_count post (fc, fr, a1, a2, a3, a4) n)
    (h0 : cd_V x = 0 → x8 = 0 ∧ x9 = -1000000 ∧ x10 = 0) (h1 : cd_V x ≠ 0 → x8 = 1 ∧ x9 = nI (cd_V x) ∧ x10 = x) :
    wL_lawOf_215 (fun r _ => r = 1) mc ms x n x8 x9 x10 z0 kc ks 0 fr a1 a2 a3 a4 := by
  unfold wL_lawOf_215 wpX_choose
  refine cd_read (fun a ha => ?_)
  have hV := cd_V_le x
  refine pk_eq (cd_V x) 0 (fun z => ?_) (fun z => ?_)
  · exact br_t (h0 z).2.1.symm (br_t (h0 z).2.2.symm (hc _ _ _ _ _ _ _ (fun b => br_t rfl (cd_degree (fun _ _ _ _ _ _ _ => br_t (by decide) (br_t (h0 z).1.symm rfl)) (fun e => absurd z e)))))
  · exact br_t (h1 z).2.1.symm (br_t (h1 z).2.2.symm (hc _ _ _ _ _ _ _ (fun b => br_t rfl (cd_degree (fun e => absurd e z) (fun _ _ _ _ _ _ _ _ hr => br_f hr (br_t (h1 z).1.symm rfl))))))
theorem cd_cn {v w : Nat} (h1 : 1 ≤ v) (h7 : v ≤ 7) (hw : cd_big v 63 = w) {n : Int32} (e : n = nI v) :
    ∀ (post : Int32 → St2 → Prop) (fc fr : Int32) (a1 a2 a3 a4 : Nat → Int32), (∀ a, post (nI w) (fc, fr, a, a2, a3, a4)) → wpX_count post (fc, fr, a1, a2, a3, a4) n := by
  intro post fc fr a1 a2 a3 a4 H
  subst e
  obtain ⟨E, hE⟩ : ∃ E : Nat, E = 4095 := ⟨4095, rfl⟩
  refine cd_count_in h1 h7 hE (fun a => ?_)
  have t := cd_cnt_all hw
  rw [← hE] at t
  rw [t]
  exact H a
theorem cd_no {n : Int32} (h1 : ¬ n = 1) (h2 : ¬ n = 2) (h3 : ¬ n = 3) (h4 : ¬ n = 4) (h5 : ¬ n = 5) (h6 : ¬ n = 6) (h7 : ¬ n = 7) : n < 1 ∨ 7 < n := by
  by_cases a : n < 1
  · exact Or.inl a
  · by_cases b : 7 < n
    · exact Or.inr b
    · exfalso
      obtain ⟨j, hj, e⟩ := nI_of2 (x := n) (M := 7) (n := 7) (by decide) (fun z => a (Int32.lt_trans z (by decide))) (Int32.not_lt.mp b)
      rcases (by omega : j = 0 ∨ j = 1 ∨ j = 2 ∨ j = 3 ∨ j = 4 ∨ j = 5 ∨ j = 6 ∨ j = 7) with q | q | q | q | q | q | q | q <;> subst q
      · exact a (by rw [e]; decide)
      · exact h1 e
      · exact h2 e
      · exact h3 e
      · exact h4 e
      · exact h5 e
      · exact h6 e
      · exact h7 e
theorem cd_144 {mc ms kc ks : Nat} {x n x8 x9 x10 fr : Int32} {a1 a2 a3 a4 : Nat → Int32}
    (h0 : cd_V x = 0 → x8 = 0 ∧ x9 = -1000000 ∧ x10 = 0) (h1 : cd_V x ≠ 0 → x8 = 1 ∧ x9 = nI (cd_V x) ∧ x10 = x) :
    wL_lawOf_144 (fun r _ => r = 1) mc ms x n x8 x9 x10 kc ks 0 fr a1 a2 a3 a4 := by
  unfold wL_lawOf_144
  refine br_c (fun e => cd_215 (cd_cn (v := 1) (w := 1) (by decide) (by decide) cd_big_1 e) h0 h1) (fun n1 => ?_)
  refine br_c (fun e => cd_215 (cd_cn (v := 2) (w := 2) (by decide) (by decide) cd_big_2 e) h0 h1) (fun n2 => ?_)
  refine br_c (fun e => cd_215 (cd_cn (v := 3) (w := 3) (by decide) (by decide) cd_big_3 e) h0 h1) (fun n3 => ?_)
  refine br_c (fun e => cd_215 (cd_cn (v := 4) (w := 5) (by decide) (by decide) cd_big_4 e) h0 h1) (fun n4 => ?_)
  refine br_c (fun e => cd_215 (cd_cn (v := 5) (w := 6) (by decide) (by decide) cd_big_5 e) h0 h1) (fun n5 => ?_)
  refine br_c (fun e => cd_215 (cd_cn (v := 6) (w := 9) (by decide) (by decide) cd_big_6 e) h0 h1) (fun n6 => ?_)
  refine br_c (fun e => cd_215 (cd_cn (v := 7) (w := 11) (by decide) (by decide) cd_big_7 e) h0 h1) (fun n7 => ?_)
  exact cd_215 (fun post fc fr a1 a2 a3 a4 H => cd_count_out (cd_no n1 n2 n3 n4 n5 n6 n7) H) h0 h1
theorem cd_low {mc ms kc ks : Nat} {x n x4 x5 x6 x7 fr : Int32} {a1 a2 a3 a4 : Nat → Int32} (hz : cd_V x = 0) :
    wL_lawOf_108 (fun r _ => r = 1) mc ms x n x4 x5 x6 x7 kc ks 0 fr a1 a2 a3 a4 :=
  br_t rfl (br_t rfl (cd_144 (fun _ => ⟨rfl, rfl, rfl⟩) (fun g => absurd hz g)))
theorem cd_high {mc ms kc ks : Nat} {x n x4 x5 x6 x7 fr : Int32} {a1 a2 a3 a4 : Nat → Int32} (hz : cd_V x ≠ 0) (hs : ((x4 + x5) + x6) + x7 = nI (cd_V x)) :
    wL_lawOf_109 (fun r _ => r = 1) mc ms x n x4 x5 x6 x7 1 kc ks 0 fr a1 a2 a3 a4 :=
  br_f (by decide) (br_f (by decide) (cd_144 (fun g => absurd g hz) (fun _ => ⟨rfl, hs, rfl⟩)))
theorem cd_V_le0 {x : Int32} (h : x ≤ 0) : cd_V x = 0 := by
  by_cases e : x = 0
  · subst e
    decide
  · refine if_pos (Or.inl (Classical.byContradiction (fun z => e ?_)))
    exact Int32.le_antisymm h (Int32.not_lt.mp z)
theorem cd_V_ge {x : Int32} (h : 4096 ≤ x) : cd_V x = 0 := by
  refine if_pos (Or.inr (fun z => ?_))
  have t : (4096 : Int32) ≤ 4095 := Int32.le_trans h z
  exact absurd t (by decide)
theorem cd_init {post : St2 → Prop} (h : post (0, 0, (fun _ => 0), (fun _ => 0), (fun _ => 0), (fun _ => 0))) : wpX_init post 4 4108 (0, 0) := by
  unfold wpX_init
  exact ⟨by decide, by decide, by decide, by decide, by decide, by decide, by decide, by decide, h⟩
theorem cd_pos {k : Nat} (h0 : 0 < k) (hk : k < 4096) : cd_ps k 4 ≠ 0 := by
  intro g
  have g2 : 0 + k / 8 ^ 0 % 8 + k / 8 ^ 1 % 8 + k / 8 ^ 2 % 8 + k / 8 ^ 3 % 8 = 0 := g
  simp only [Nat.reducePow, Nat.div_one] at g2
  have e2 : k / 64 = k / 8 / 8 := by rw [Nat.div_div_eq_div_mul]
  have e3 : k / 512 = k / 8 / 8 / 8 := by rw [Nat.div_div_eq_div_mul, Nat.div_div_eq_div_mul]
  rw [e2, e3] at g2
  have q0 : k % 8 = 0 := by omega
  have q1 : k / 8 % 8 = 0 := by omega
  have q2 : k / 8 / 8 % 8 = 0 := by omega
  have q3 : k / 8 / 8 / 8 % 8 = 0 := by omega
  omega
theorem cd_lawOf (s m n : Int32) : wpL_lawOf (fun r _ => r = 1) 2064 33008 () s m n := by
  unfold wpL_lawOf
  refine ⟨by decide, by decide, 4, 4108, by decide, by decide, cd_init ?_⟩
  refine br_t rfl (br_t rfl (br_t rfl (nm_e (nm_e (nm_e (nm_e ?_))))))
  refine br_c (fun z => cd_low (cd_V_le0 z)) (fun z => br_c (fun z' => cd_low (cd_V_ge z')) (fun z' => ?_))
  obtain ⟨k, hk', rfl⟩ : ∃ k : Nat, k < 2 ^ 31 ∧ s = nI k := nI_of (fun q => z (Int32.le_of_lt q))
  have hk : k < 4096 := by
    rcases Nat.lt_or_ge k 4096 with q | q
    · exact q
    · exact absurd (nI_le (a := 4096) q hk') z'
  have k0 : 0 < k := by
    rcases Nat.eq_zero_or_pos k with q | q
    · subst q
      exact absurd (show nI 0 ≤ 0 by decide) z
    · exact q
  have e := cd_V_in hk
  have e4 : nI k &&& 7 = nI (cd_pp k 0) := by
    rw [pk_andN (by omega) (m := 7) 3 (by decide)]
    show nI (k % 8) = nI (k / 1 % 8)
    rw [Nat.div_one]
  have e5 : (nI k >>> ((3 : Int32) &&& 31)) &&& 7 = nI (cd_pp k 1) := by
    rw [pk_shrN hk' _ 3 (by decide), pk_andN (by omega) (m := 7) 3 (by decide)]
    rfl
  have e6 : (nI k >>> ((6 : Int32) &&& 31)) &&& 7 = nI (cd_pp k 2) := by
    rw [pk_shrN hk' _ 6 (by decide), pk_andN (by omega) (m := 7) 3 (by decide)]
    rfl
  have e7 : nI k >>> ((9 : Int32) &&& 31) = nI (cd_pp k 3) := by
    rw [pk_shrN hk' _ 9 (by decide)]
    show nI (k / 512) = nI (k / 512 % 8)
    rw [Nat.mod_eq_of_lt (by omega)]
  rw [e4, e5, e6, e7]
  have p0 := cd_pp_lt k 0
  have p1 := cd_pp_lt k 1
  have p2 := cd_pp_lt k 2
  have p3 := cd_pp_lt k 3
  have ps := cd_ps_le k 4
  have hs : ((nI (cd_pp k 0) + nI (cd_pp k 1)) + nI (cd_pp k 2)) + nI (cd_pp k 3) = nI (cd_ps k 4) := by
    rw [nI_add, nI_add, nI_add]
    show _ = nI (0 + cd_pp k 0 + cd_pp k 1 + cd_pp k 2 + cd_pp k 3)
    rw [Nat.zero_add]
  have lo : ¬ (cd_pp k 1 ≤ cd_pp k 0 ∧ cd_pp k 2 ≤ cd_pp k 1 ∧ cd_pp k 3 ≤ cd_pp k 2 ∧ cd_ps k 4 ≤ 7) → cd_V (nI k) = 0 := fun g => e.trans (if_neg g)
  refine pk_lt (cd_pp k 0) (cd_pp k 1) (fun g => cd_low (lo (fun q => absurd q.1 (by omega)))) (fun g1 => ?_)
  refine pk_lt (cd_pp k 1) (cd_pp k 2) (fun g => cd_low (lo (fun q => absurd q.2.1 (by omega)))) (fun g2 => ?_)
  refine pk_lt (cd_pp k 2) (cd_pp k 3) (fun g => cd_low (lo (fun q => absurd q.2.2.1 (by omega)))) (fun g3 => ?_)
  refine pk_lt 7 (cd_ps k 4) (fun g => cd_low (lo (fun q => absurd q.2.2.2 (by omega)))) (fun g4 => ?_) rfl hs
  have ev : cd_V (nI k) = cd_ps k 4 := e.trans (if_pos ⟨g1, g2, g3, g4⟩)
  exact cd_high (by rw [ev]; exact cd_pos k0 hk) (by rw [ev]; exact hs)
theorem cd_cell {post : Int32 → Prop} {L : Nat} {xs : Nat → Int32} {p : Nat} (hL : L ≤ 3) (hp : p < 3) (H : ∀ r, post r) : wpL_cellAt post L xs () (nI p) :=
  pk_le L p (fun _ => H _) (fun z => ⟨pk_in p L z, H _⟩)
theorem i_vc (xs : Nat → Int32) (L : Nat) (hL : L ≤ 3) : wpL_law (fun r => r = 1) L xs :=
  cd_cell (p := 0) hL (by decide) (fun r1 => cd_cell (p := 1) hL (by decide) (fun r2 => cd_cell (p := 2) hL (by decide) (fun r3 => ⟨2064, 33008, by decide, by decide, cd_lawOf r1 r2 r3⟩)))
end
