section
/-! ===== plain facts: turns, jumps, bits ===== -/
/-- the way that key k takes at level l -/
def sn_t (k l : Nat) : Nat := k / 4 ^ (3 - l) % 4
theorem sn_t_lt (k l : Nat) : sn_t k l < 4 := Nat.mod_lt _ (by decide)
theorem sn_turn_tab : ∀ l, l < 3 → ∀ k, k < 256 → (((nI k).toUInt32 >>> ((6 - (2 * nI l)).toUInt32 &&& Int32.toUInt32 31)).toInt32) &&& 3 = nI (sn_t k l) := by decide +kernel
/-- where the jump over level l's part leads -/
def sn_b (k l : Nat) : Nat := (k / 4 ^ (4 - l) + 1) * 4 ^ (4 - l)
theorem sn_beh_tab : ∀ l, l < 5 → ∀ k, k < 256 → (nI k &&& ((((256 : Int32).toUInt32 >>> ((2 * nI l).toUInt32 &&& Int32.toUInt32 31)).toInt32 - 1) ^^^ (-1))) + ((256 : Int32).toUInt32 >>> ((2 * nI l).toUInt32 &&& Int32.toUInt32 31)).toInt32 = nI (sn_b k l) := by decide +kernel
theorem sn_bit_tab : ∀ a, a < 4 → ∀ b, b < 4 → (((((256 : Int32) ||| ((1 : Int32) <<< (nI a &&& 31))).toUInt32 >>> ((nI b).toUInt32 &&& Int32.toUInt32 31)).toInt32) &&& 1) = if b = a then 1 else 0 := by decide +kernel
theorem sn_clr_tab : ∀ a, a < 4 → ((256 : Int32) ||| ((1 : Int32) <<< (nI a &&& 31))) &&& (((1 : Int32) <<< (nI a &&& 31)) ^^^ (-1)) = 256 := by decide +kernel
theorem sn_and3 {k : Nat} (hk : k < 256) : nI k &&& 3 = nI (k % 4) := pk_andN (by omega) 2 (by decide)
theorem sn_ix (n w : Nat) : 4 * nI n + nI w = nI (4 * n + w) := by
  rw [show (4 : Int32) = nI 4 from rfl, pk_mul, nI_add]
theorem sn_self (f : Nat → Int32) (k : Nat) (x : Int32) (h : x = f k) : upd f k x = f := by
  funext j
  by_cases e : j = k
  · rw [e, pk_us, h]
  · rw [pk_un e]
/-- after how many turns nothing is on the way to q any more, in the tree that holds k alone -/
def sn_ml (k q : Nat) : Nat := if sn_t q 0 ≠ sn_t k 0 then 1 else if sn_t q 1 ≠ sn_t k 1 then 2 else if sn_t q 2 ≠ sn_t k 2 then 3 else if q % 4 = k % 4 then 5 else 4
theorem sn_ml_pos (k q : Nat) : 0 < sn_ml k q := by
  unfold sn_ml
  split
  · omega
  · split
    · omega
    · split
      · omega
      · split <;> omega
theorem sn_ml_step {k q i : Nat} (hi : i < 3) (h : i < sn_ml k q) : (sn_t q i = sn_t k i → i + 1 < sn_ml k q) ∧ (sn_t q i ≠ sn_t k i → sn_ml k q = i + 1) := by
  unfold sn_ml at h ⊢
  by_cases h0 : sn_t q 0 = sn_t k 0
  · by_cases h1 : sn_t q 1 = sn_t k 1
    · by_cases h2 : sn_t q 2 = sn_t k 2
      · rw [if_neg (fun z => z h0), if_neg (fun z => z h1), if_neg (fun z => z h2)] at h ⊢
        obtain rfl | rfl | rfl : i = 0 ∨ i = 1 ∨ i = 2 := by omega
        · exact ⟨fun _ => by split <;> omega, fun z => absurd h0 z⟩
        · exact ⟨fun _ => by split <;> omega, fun z => absurd h1 z⟩
        · exact ⟨fun _ => by split <;> omega, fun z => absurd h2 z⟩
      · rw [if_neg (fun z => z h0), if_neg (fun z => z h1), if_pos h2] at h ⊢
        obtain rfl | rfl | rfl : i = 0 ∨ i = 1 ∨ i = 2 := by omega
        · exact ⟨fun _ => by omega, fun z => absurd h0 z⟩
        · exact ⟨fun _ => by omega, fun z => absurd h1 z⟩
        · exact ⟨fun z => absurd z h2, fun _ => rfl⟩
    · rw [if_neg (fun z => z h0), if_pos h1] at h ⊢
      obtain rfl | rfl : i = 0 ∨ i = 1 := by omega
      · exact ⟨fun _ => by omega, fun z => absurd h0 z⟩
      · exact ⟨fun z => absurd z h1, fun _ => rfl⟩
  · rw [if_pos h0] at h ⊢
    obtain rfl : i = 0 := by omega
    exact ⟨fun z => absurd z h0, fun _ => rfl⟩
theorem sn_ml_end {k q : Nat} (h : 3 < sn_ml k q) : sn_ml k q = if q % 4 = k % 4 then 5 else 4 := by
  unfold sn_ml at h ⊢
  by_cases h0 : sn_t q 0 = sn_t k 0
  · by_cases h1 : sn_t q 1 = sn_t k 1
    · by_cases h2 : sn_t q 2 = sn_t k 2
      · rw [if_neg (fun z => z h0), if_neg (fun z => z h1), if_neg (fun z => z h2)]
      · rw [if_neg (fun z => z h0), if_neg (fun z => z h1), if_pos h2] at h
        omega
    · rw [if_neg (fun z => z h0), if_pos h1] at h
      omega
  · rw [if_pos h0] at h
    omega
theorem sn_ml_self (k : Nat) : sn_ml k k = 5 := by
  unfold sn_ml
  rw [if_neg (fun z => z rfl), if_neg (fun z => z rfl), if_neg (fun z => z rfl), if_pos rfl]
/-- a key that isn't k: the jump goes forward, and not over k -/
theorem sn_jump {k q : Nat} (hk : k < 256) (hq : q < 256) (hn : q ≠ k) : sn_ml k q ≤ 4 ∧ q < sn_b q (sn_ml k q) ∧ sn_b q (sn_ml k q) ≤ 256 ∧ (q < k → sn_b q (sn_ml k q) ≤ k) := by
  have e0 : ∀ x, sn_t x 0 = x / 64 % 4 := fun _ => rfl
  have e1 : ∀ x, sn_t x 1 = x / 16 % 4 := fun _ => rfl
  have e2 : ∀ x, sn_t x 2 = x / 4 % 4 := fun _ => rfl
  unfold sn_ml
  rw [e0, e0, e1, e1, e2, e2]
  by_cases h0 : q / 64 % 4 = k / 64 % 4
  · by_cases h1 : q / 16 % 4 = k / 16 % 4
    · by_cases h2 : q / 4 % 4 = k / 4 % 4
      · have h3 : ¬ q % 4 = k % 4 := by omega
        rw [if_neg (fun z => z h0), if_neg (fun z => z h1), if_neg (fun z => z h2), if_neg h3]
        have eb : sn_b q 4 = q + 1 := by
          show (q / 1 + 1) * 1 = q + 1
          omega
        rw [eb]
        omega
      · rw [if_neg (fun z => z h0), if_neg (fun z => z h1), if_pos h2]
        have eb : sn_b q 3 = (q / 4 + 1) * 4 := rfl
        rw [eb]
        omega
    · rw [if_neg (fun z => z h0), if_pos h1]
      have eb : sn_b q 2 = (q / 16 + 1) * 16 := rfl
      rw [eb]
      omega
  · rw [if_pos h0]
    have eb : sn_b q 1 = (q / 64 + 1) * 64 := rfl
    rw [eb]
    omega
theorem sn_b0 {q : Nat} (hq : q < 256) : sn_b q 0 = 256 := by
  show (q / 256 + 1) * 256 = 256
  omega
end
section
/-! ===== the class's questions ===== -/
/-- the tree that holds k -> v alone: what the questions need of it -/
def sn_W (k : Nat) (a1 : Nat → Int32) : Prop := ∀ i w, i < 3 → w < 4 → a1 (4 * i + w) = if w = sn_t k i then nI (i + 1) else -1
theorem sn_W_at {k : Nat} {a1 : Nat → Int32} (h : sn_W k a1) {i : Nat} (hi : i < 3) (q : Nat) : a1 (4 * nI i + nI (sn_t q i)).toNatClampNeg = if sn_t q i = sn_t k i then nI (i + 1) else -1 := by
  have := sn_t_lt q i
  rw [sn_ix, nI_clamp (by omega)]
  exact h i _ hi this
theorem sn_turn {post : Int32 → Prop} {k l : Nat} (hk : k < 256) (hl : l < 3) (h : post (nI (sn_t k l))) : wpX_turn post () (nI k) (nI l) := by
  unfold wpX_turn
  rw [sn_turn_tab l hl k hk]
  exact h
theorem sn_in {i q N : Nat} (h : 4 * i + q < N) (hN : N < 2 ^ 31) : vp_in (4 * nI i + nI q) N := by
  rw [sn_ix]
  exact vp_in_nI h hN
theorem sn_m1 {p : Int32} (h1 : ¬ p < (-1)) (h2 : p < 0) : p = -1 := by
  rw [Int32.lt_iff_toInt_lt] at h1 h2
  have e1 : (-1 : Int32).toInt = -1 := by decide
  have e0 : (0 : Int32).toInt = 0 := by decide
  exact Int32.toInt_inj.mp (by omega)
section
variable {a1 a2 a3 a4 a5 a6 a7 a8 : Nat → Int32}
theorem sn_isMap {post : Int32 → Prop} {p : Int32} (h40 : a4 0 = 1) (h4 : ∀ j, 0 < j → a4 j = 0) (H1 : p = -1 → post 1) (H0 : ¬ p = -1 → post 0) : wpX_isMap post (a1, a2, a3, a4, a5, a6, a7, a8) p := by
  refine br_c (fun z => H0 (fun e => by rw [e] at z; exact absurd z (by decide))) (fun z => ?_)
  refine br_c (fun z2 => H0 (fun e => by rw [e] at z2; exact absurd z2 (by decide))) (fun z2 => ?_)
  by_cases hz : p < 0
  · have e := sn_m1 z hz
    have e1 : p + 1 = nI 0 := by rw [e]; decide
    rw [e1]
    refine ⟨vp_in_nI (by decide) (by decide), ?_⟩
    rw [nI_clamp (by decide)]
    exact br_f (by rw [h40]; decide) (H1 e)
  · obtain ⟨j, hj, e⟩ := nI_of2 (M := 6) (n := 6) (by decide) hz (Int32.not_lt.mp z2)
    have e1 : p + 1 = nI (j + 1) := by rw [e, nI_1]
    rw [e1]
    refine ⟨vp_in_nI (by omega) (by decide), ?_⟩
    rw [nI_clamp (by omega)]
    exact br_t (h4 _ (by omega)) (H0 (fun z3 => by rw [z3] at hz; exact hz (by decide)))
/-- the way down to k ends at node 3 -/
theorem sn_leaf {post : Int32 → Prop} {k : Nat} (hk : k < 256) (h1 : sn_W k a1) (h5 : a5 0 = 0) (H : post (nI 3)) : wpX_leafFor post (a1, a2, a3, a4, a5, a6, a7, a8) (nI 0) (nI k) := by
  refine ⟨vp_in_nI (by decide) (by decide), nm_r (e' := nI 0) (by rw [nI_clamp (by decide), h5]; rfl) ?_⟩
  exact pk_loop (σ := Unit) (fun n i _ => wX_leafFor_10 post (nI k) a1 a2 a3 a4 a5 a6 a7 a8 n (nI i) (nI i)) (fun _ _ => True) 3 0 () (by omega) trivial
    (fun n _ _ => pk_le 3 3 (fun _ => H) (fun z => absurd z (by omega)))
    (fun n i _ hi _ hw => pk_le 3 i (fun z => absurd z (by omega)) (fun _ => br_f (nI_pos (by omega)) (sn_turn hk hi ⟨sn_in (by have := sn_t_lt k i; omega) (by decide), nm_r (by rw [sn_W_at h1 hi, if_pos rfl]) (nm_r (nI_1 i) (hw () trivial))⟩)))
/-- no way in the empty map -/
theorem sn_leaf0 {post : Int32 → Prop} {q : Int32} (h5 : a5 0 = -1) (H : post (-1)) : wpX_leafFor post (a1, a2, a3, a4, a5, a6, a7, a8) (nI 0) q :=
  ⟨vp_in_nI (by decide) (by decide), nm_r (e' := -1) (by rw [nI_clamp (by decide), h5]) ⟨1, br_f (by decide) (br_t (by decide) H)⟩⟩
theorem sn_holds {post : Int32 → Prop} {k : Nat} (hk : k < 256) (h1 : sn_W k a1) (h2 : a2 3 = 256 ||| ((1 : Int32) <<< (nI (k % 4) &&& 31))) (h5 : a5 0 = 0) (H : post 1) : wpX_holds post (a1, a2, a3, a4, a5, a6, a7, a8) 0 (nI k) := by
  refine sn_leaf hk h1 h5 (br_f (by decide) ⟨vp_in_nI (by decide) (by decide), ?_⟩)
  rw [nI_clamp (by decide), h2, sn_and3 hk, sn_bit_tab _ (Nat.mod_lt _ (by decide)) _ (Nat.mod_lt _ (by decide)), if_pos rfl]
  exact br_f (by decide) H
theorem sn_holds0 {post : Int32 → Prop} {q : Int32} (h5 : a5 0 = -1) (H : post 0) : wpX_holds post (a1, a2, a3, a4, a5, a6, a7, a8) 0 q :=
  sn_leaf0 h5 (br_t (by decide) H)
theorem sn_get {post : Int32 → Prop} {k : Nat} {v : Int32} (hk : k < 256) (h1 : sn_W k a1) (hv : a1 (12 + k % 4) = v) (h2 : a2 3 = 256 ||| ((1 : Int32) <<< (nI (k % 4) &&& 31))) (h40 : a4 0 = 1) (h4 : ∀ j, 0 < j → a4 j = 0) (h5 : a5 0 = 0) (H : post v) : wpX_get post (a1, a2, a3, a4, a5, a6, a7, a8) (-1) (nI k) := by
  unfold wpX_get
  refine sn_isMap h40 h4 (fun _ => ?_) (fun z => absurd rfl z)
  refine br_f (by decide) (br_f (nI_pos (by omega)) (br_t (show nI k ≤ nI 255 from nI_le (by omega) (by decide)) ?_))
  refine sn_leaf hk h1 h5 (br_f (by decide) ⟨vp_in_nI (by decide) (by decide), ?_⟩)
  rw [nI_clamp (by decide), h2, sn_and3 hk, sn_bit_tab _ (Nat.mod_lt _ (by decide)) _ (Nat.mod_lt _ (by decide)), if_pos rfl]
  refine br_f (by decide) ⟨sn_in (by omega) (by decide), ?_⟩
  rw [sn_ix, nI_clamp (by omega), show 4 * 3 + k % 4 = 12 + k % 4 from rfl, hv]
  exact H
theorem sn_get0 {post : Int32 → Prop} {q : Int32} (hq : q < 0 ∨ 255 < q) (h40 : a4 0 = 1) (h4 : ∀ j, 0 < j → a4 j = 0) (H : post 0) : wpX_get post (a1, a2, a3, a4, a5, a6, a7, a8) (-1) q := by
  unfold wpX_get
  refine sn_isMap h40 h4 (fun _ => ?_) (fun z => absurd rfl z)
  exact br_f (by decide) (br_c (fun _ => H) (fun z => br_f (Int32.not_le.mpr (hq.resolve_left z)) H))
/-! ===== next ===== -/
theorem sn_miss {post : Int32 → Prop} {k q : Nat} (hk : k < 256) (hq : q < 256) (h1 : sn_W k a1) (h2 : a2 3 = 256 ||| ((1 : Int32) <<< (nI (k % 4) &&& 31))) (h5 : a5 0 = 0) (H : post (nI (sn_ml k q))) : wpX_missingLevel post (a1, a2, a3, a4, a5, a6, a7, a8) (nI 0) (nI q) := by
  refine ⟨vp_in_nI (by decide) (by decide), nm_r (e' := nI 0) (by rw [nI_clamp (by decide), h5]; rfl) ?_⟩
  refine pk_loop (fun n i s => wX_missingLevel_10 post (nI q) a1 a2 a3 a4 a5 a6 a7 a8 n s (nI i)) (fun i s => (s = nI i ∧ i < sn_ml k q) ∨ (s = -1 ∧ sn_ml k q = i)) 3 0 (nI 0) (by omega) (Or.inl ⟨rfl, sn_ml_pos k q⟩) ?_ ?_
  · intro n s hs
    refine br_t (by decide) ?_
    rcases hs with ⟨rfl, hm⟩ | ⟨rfl, hm⟩
    · refine br_t (by decide) ⟨vp_in_nI (by decide) (by decide), ?_⟩
      rw [nI_clamp (by decide), h2, sn_and3 hq, sn_bit_tab _ (Nat.mod_lt _ (by decide)) _ (Nat.mod_lt _ (by decide))]
      rw [sn_ml_end hm] at H
      by_cases e : q % 4 = k % 4
      · rw [if_pos e] at H ⊢
        exact br_f (by decide) H
      · rw [if_neg e] at H ⊢
        exact br_t rfl H
    · rw [hm] at H
      exact br_f (by decide) H
  · intro n i s hi hs hw
    refine pk_le 3 i (fun z => absurd z (by omega)) (fun _ => ?_)
    rcases hs with ⟨rfl, hm⟩ | ⟨rfl, hm⟩
    · refine br_t (nI_pos' (by omega)) (sn_turn hq hi ⟨sn_in (by have := sn_t_lt q i; omega) (by decide), nm_r (sn_W_at h1 hi q) (nm_r (nI_1 i) (hw _ ?_))⟩)
      have st := sn_ml_step hi hm
      by_cases e : sn_t q i = sn_t k i
      · rw [if_pos e]
        exact Or.inl ⟨rfl, st.1 e⟩
      · rw [if_neg e]
        exact Or.inr ⟨rfl, st.2 e⟩
    · rw [hm] at H
      exact br_f (by decide) H
theorem sn_miss0 {post : Int32 → Prop} {q : Int32} (h5 : a5 0 = -1) (H : post 0) : wpX_missingLevel post (a1, a2, a3, a4, a5, a6, a7, a8) (nI 0) q :=
  ⟨vp_in_nI (by decide) (by decide), nm_r (e' := -1) (by rw [nI_clamp (by decide), h5]) ⟨1, br_f (by decide) (br_f (by decide) H)⟩⟩
theorem sn_behind {post : Int32 → Prop} {q l : Nat} (hq : q < 256) (hl : l < 5) (H : post (nI (sn_b q l))) : wpX_behind post () (nI q) (nI l) := by
  refine nm_e ?_
  rw [sn_beh_tab l hl q hq]
  exact H
/-- from behind k nothing is found -/
theorem sn_next_hi {post : Int32 → Prop} {k q : Nat} (hk : k < 256) (h1 : sn_W k a1) (h2 : a2 3 = 256 ||| ((1 : Int32) <<< (nI (k % 4) &&& 31))) (h5 : a5 0 = 0) (hq : k < q) (hq2 : q < 2 ^ 31) (H : post 256) : ∃ n, wX_next_23 post (-1) a1 a2 a3 a4 a5 a6 a7 a8 n (nI q) 0 :=
  pk_loop (fun n i s => wX_next_23 post (-1) a1 a2 a3 a4 a5 a6 a7 a8 n (nI s) (nI i)) (fun _ s => k < s ∧ s < 2 ^ 31) 256 0 q (by omega) ⟨hq, hq2⟩
    (fun n s _ => br_t (by decide) H)
    (fun n i s hi hs hw => pk_le 256 i (fun z => absurd z (by omega)) (fun _ => pk_le 256 s (fun _ => H) (fun z => by
      have hj := sn_jump hk z (Nat.ne_of_gt hs.1)
      exact sn_miss hk z h1 h2 h5 (br_t (show nI _ ≤ nI 4 from nI_le hj.1 (by decide)) (sn_behind z (by omega) (nm_r (nI_1 i) (hw _ ⟨by omega, by omega⟩))))) (hb := hs.2)))
/-- from k or ahead of it k is found -/
theorem sn_next_lo {post : Int32 → Prop} {k q : Nat} (hk : k < 256) (h1 : sn_W k a1) (h2 : a2 3 = 256 ||| ((1 : Int32) <<< (nI (k % 4) &&& 31))) (h5 : a5 0 = 0) (hq : q ≤ k) (H : post (nI k)) : ∃ n, wX_next_23 post (-1) a1 a2 a3 a4 a5 a6 a7 a8 n (nI q) 0 :=
  pk_loop (fun n i s => wX_next_23 post (-1) a1 a2 a3 a4 a5 a6 a7 a8 n (nI s) (nI i)) (fun i s => i ≤ s ∧ s ≤ k) 256 0 q (by omega) ⟨by omega, hq⟩
    (fun n s hs => absurd hs (by omega))
    (fun n i s hi hs hw => pk_le 256 i (fun z => absurd z (by omega)) (fun _ => pk_le 256 s (fun z => absurd z (by omega)) (fun z => by
      by_cases e : s = k
      · subst e
        refine sn_miss hk z h1 h2 h5 ?_
        rw [sn_ml_self]
        exact br_f (by decide) H
      · have hj := sn_jump hk z e
        have hb := hj.2.2.2 (by omega)
        exact sn_miss hk z h1 h2 h5 (br_t (show nI _ ≤ nI 4 from nI_le hj.1 (by decide)) (sn_behind z (by omega) (nm_r (nI_1 i) (hw _ ⟨by omega, by omega⟩)))))))
theorem sn_next0 {post : Int32 → Prop} {q : Nat} (h5 : a5 0 = -1) (hq2 : q < 2 ^ 31) (H : post 256) : ∃ n, wX_next_23 post (-1) a1 a2 a3 a4 a5 a6 a7 a8 n (nI q) 0 := by
  refine ⟨2, br_f (by decide) (pk_le 256 q (fun _ => H) (fun z => ?_))⟩
  refine sn_miss0 h5 (br_t (by decide) (sn_behind (l := 0) z (by decide) (nm_r (nI_1 0) ?_)))
  rw [sn_b0 z]
  exact br_f (by decide) (br_t (by decide) H)
theorem sn_next {post : Int32 → Prop} {k : Nat} {p : Int32} (hk : k < 256) (h1 : sn_W k a1) (h2 : a2 3 = 256 ||| ((1 : Int32) <<< (nI (k % 4) &&& 31))) (h40 : a4 0 = 1) (h4 : ∀ j, 0 < j → a4 j = 0) (h5 : a5 0 = 0) (HL : ¬ nI k < p → post (nI k)) (HH : nI k < p → post 256) : wpX_next post (a1, a2, a3, a4, a5, a6, a7, a8) (-1) p := by
  unfold wpX_next
  refine sn_isMap h40 h4 (fun _ => ?_) (fun z => absurd rfl z)
  refine br_f (by decide) ?_
  by_cases hp : p < 0
  · refine br_f (Int32.not_le.mpr hp) (sn_next_lo hk h1 h2 h5 (Nat.zero_le k) (HL (fun z => ?_)))
    have := Int32.lt_trans z hp
    exact nI_pos (by omega) this
  · obtain ⟨j, hj, rfl⟩ := nI_of hp
    refine br_t (nI_pos' hj) ?_
    by_cases e : j ≤ k
    · exact sn_next_lo hk h1 h2 h5 e (HL (nI_nlt e (by omega)))
    · exact sn_next_hi hk h1 h2 h5 (by omega) hj (HH (nI_lt (by omega) hj))
theorem sn_nextE {post : Int32 → Prop} {p : Int32} (h40 : a4 0 = 1) (h4 : ∀ j, 0 < j → a4 j = 0) (h5 : a5 0 = -1) (H : post 256) : wpX_next post (a1, a2, a3, a4, a5, a6, a7, a8) (-1) p := by
  unfold wpX_next
  refine sn_isMap h40 h4 (fun _ => ?_) (fun z => absurd rfl z)
  refine br_f (by decide) ?_
  by_cases hp : p < 0
  · exact br_f (Int32.not_le.mpr hp) (sn_next0 (q := 0) h5 (by decide) H)
  · obtain ⟨j, hj, rfl⟩ := nI_of hp
    exact br_t (nI_pos' hj) (sn_next0 h5 hj H)
/-! ===== size, changes ===== -/
theorem sn_size {post : Int32 → Prop} {p : Int32} (h40 : a4 0 = 1) (h4 : ∀ j, 0 < j → a4 j = 0) (H1 : p = -1 → post (a6 0)) (H0 : ¬ p = -1 → post (-1)) : wpX_size post (a1, a2, a3, a4, a5, a6, a7, a8) p := by
  unfold wpX_size
  refine sn_isMap h40 h4 (fun e => br_f (by decide) ?_) (fun e => br_t rfl (H0 e))
  have h := H1 e
  have e1 : p + 1 = nI 0 := by rw [e]; decide
  rw [e1]
  refine ⟨vp_in_nI (by decide) (by decide), ?_⟩
  rw [nI_clamp (by decide)]
  exact h
theorem sn_nextChange {post : Int32 → Prop} (h40 : a4 0 = 1) (h4 : ∀ j, 0 < j → a4 j = 0) (H : post 256) : wpX_nextChange post (a1, a2, a3, a4, a5, a6, a7, a8) (-1) (-1) 0 := by
  unfold wpX_nextChange
  refine sn_isMap h40 h4 (fun _ => br_f (by decide) (sn_isMap h40 h4 (fun _ => br_f (by decide) ?_) (fun z => absurd rfl z))) (fun z => absurd rfl z)
  refine br_t (by decide) ⟨2, br_f (by decide) (br_f (by decide) ?_)⟩
  refine ⟨vp_in_iff.mpr (by decide), nm_e ⟨vp_in_iff.mpr (by decide), nm_e ⟨1, br_f (by decide) (br_t rfl ?_)⟩⟩⟩
  refine br_t (by decide) (sn_behind (q := 0) (l := 0) (by decide) (by decide) (nm_e ?_))
  exact br_f (by decide) (br_t (by decide) H)
theorem sn_changes {post : Int32 → Prop} {p : Int32} (h40 : a4 0 = 1) (h4 : ∀ j, 0 < j → a4 j = 0) (H1 : p = -1 → post 0) (H0 : ¬ p = -1 → post (-1)) : wpX_changes post (a1, a2, a3, a4, a5, a6, a7, a8) (-1) p := by
  unfold wpX_changes
  refine sn_isMap h40 h4 (fun _ => br_f (by decide) ?_) (fun z => absurd rfl z)
  refine sn_isMap h40 h4 (fun e => br_f (by decide) ?_) (fun e => br_t rfl (H0 e))
  have h := H1 e
  subst e
  exact sn_nextChange h40 h4 ⟨1, br_f (by decide) (br_t (by decide) h)⟩
end
end
section
/-! ===== the class's stores (printed by gen03.py) ===== -/
theorem sn_fillA {s : Nat → Int32} {n i : Nat} {c x : Int32} (h : ∀ w, w < i → s (4 * n + w) = c) (hx : c = x) : ∀ w, w < i + 1 → upd s (4 * n + i) x (4 * n + w) = c := by
  intro w hw
  by_cases e : w = i
  · rw [e, pk_us, hx]
  · rw [pk_un (by omega)]
    exact h w (by omega)
theorem sn_fillB {s a : Nat → Int32} {n i : Nat} {x : Int32} (h : ∀ j, j < 4 * n → s j = a j) : ∀ j, j < 4 * n → upd s (4 * n + i) x j = a j := by
  intro j hj
  rw [pk_un (by omega)]
  exact h j hj
section
variable {a1 a2 a3 a4 a5 a6 a7 a8 : Nat → Int32}
theorem sn_free {post : Int32 → Prop} {n : Nat} (hn : n < 400) (h3 : ∀ j, j < n → a3 j = 1) (h3n : a3 n = 0) (H : post (nI n)) : wpX_freeNode post (a1, a2, a3, a4, a5, a6, a7, a8) :=
  pk_loop (σ := Unit) (fun f i _ => wX_freeNode_2 post a1 a2 a3 a4 a5 a6 a7 a8 f (nI i)) (fun _ _ => True) n 0 () (by omega) trivial
    (fun f _ _ => pk_le 400 n (fun z => absurd z (by omega)) (fun _ => ⟨pk_in n 400 hn, br_t (by rw [nI_clamp (by omega)]; exact h3n) H⟩))
    (fun f i _ hi _ hw => pk_le 400 i (fun z => absurd z (by omega)) (fun _ => ⟨pk_in i 400 (by omega), br_f (by rw [nI_clamp (by omega), h3 i hi]; decide) (nm_r (nI_1 i) (hw () trivial))⟩))
theorem sn_own1 {post : Int32 → St2 → Prop} {n l : Nat} (hn : n < 400) (hl : l < 4) (h3 : ∀ j, j < n → a3 j = 1) (h3n : a3 n = 0)
    (H : ∀ b1 b2 : Nat → Int32, (∀ w, w < 4 → b1 (4 * n + w) = if l < 3 then -1 else 0) → (∀ j, j < 4 * n → b1 j = a1 j) → (b2 n = if l = 3 then 256 else 0) → post (nI n) (b1, b2, upd a3 n 1, a4, a5, a6, a7, a8)) :
    wpX_ownNode post (a1, a2, a3, a4, a5, a6, a7, a8) (-1) (nI l) := by
  refine br_t (by decide) (sn_free hn h3 h3n ⟨vp_in_nI hn (by decide), nm_r (e' := upd a3 n 1) (by rw [nI_clamp (by omega)]) ?_⟩)
  refine pk_loop (fun f i s => wX_ownNode_31 post (-1) (nI l) (nI n) f (nI i) s a2 (upd a3 n 1) a4 a5 a6 a7 a8) (fun i s => (∀ w, w < i → s (4 * n + w) = if l < 3 then -1 else 0) ∧ (∀ j, j < 4 * n → s j = a1 j)) 4 0 a1 (by omega) ⟨fun w hw => absurd hw (by omega), fun _ _ => rfl⟩ ?_ ?_
  · intro f s hs
    refine br_t (by decide) (br_f (by decide) ⟨vp_in_nI hn (by decide), nm_r (e' := upd a2 n 0) (by rw [nI_clamp (by omega)]) ?_⟩)
    refine pk_eq l 3 (fun e => ⟨vp_in_nI hn (by decide), vp_in_nI hn (by decide), nm_r (e' := upd (upd a2 n 0) n 256) ?_ (br_t (by decide) (H s _ hs.1 hs.2 ?_))⟩) (fun e => ⟨vp_in_nI hn (by decide), nm_r (e' := upd (upd a2 n 0) n 0) ?_ (br_t (by decide) (H s _ hs.1 hs.2 ?_))⟩)
    · rw [nI_clamp (by omega), pk_us]; rfl
    · rw [if_pos e, pk_us]
    · rw [nI_clamp (by omega)]
    · rw [if_neg e, pk_us]
  · intro f i s hi hs hw
    refine pk_le 4 i (fun z => absurd z (by omega)) (fun _ => br_f (by decide) ?_)
    refine pk_le 3 l (fun z => ?_) (fun z => ?_)
    · refine ⟨sn_in (by omega) (by decide), nm_r (e' := upd s (4 * n + i) 0) (by rw [sn_ix, nI_clamp (by omega)]) (pk_le 3 l (fun _ => nm_r (nI_1 i) (hw _ ?_)) (fun z2 => absurd z2 (by omega)))⟩
      exact ⟨sn_fillA hs.1 (by rw [if_neg (by omega)]), sn_fillB hs.2⟩
    · refine ⟨sn_in (by omega) (by decide), nm_r (e' := upd s (4 * n + i) (-1)) (by rw [sn_ix, nI_clamp (by omega)]) (pk_le 3 l (fun z2 => absurd z2 (by omega)) (fun _ => ⟨sn_in (by omega) (by decide), br_t ?_ (nm_r (nI_1 i) (hw _ ?_))⟩))⟩
      · rw [sn_ix, nI_clamp (by omega), pk_us]
        decide
      · exact ⟨sn_fillA hs.1 (by rw [if_pos z]), sn_fillB hs.2⟩
/-- a node that is the map's own stays -/
theorem sn_keep1 {post : Int32 → St2 → Prop} {n : Nat} {l : Int32} (hn : n < 400) (h3 : a3 n = 1) (H : post (nI n) (a1, a2, a3, a4, a5, a6, a7, a8)) : wpX_ownNode post (a1, a2, a3, a4, a5, a6, a7, a8) (nI n) l :=
  br_f (nI_pos (by omega)) ⟨vp_in_nI hn (by decide), br_t (by rw [nI_clamp (by omega)]; exact h3) H⟩
theorem sn_own2 {post : Int32 → St2 → Prop} {n l : Nat} (hn : n < 400) (hl : l < 4) (h3 : ∀ j, j < n → a3 j = 1) (h3n : a3 n = 0)
    (H : ∀ b1 b2 : Nat → Int32, (∀ w, w < 4 → b1 (4 * n + w) = if l < 3 then -1 else 0) → (∀ j, j < 4 * n → b1 j = a1 j) → (b2 n = if l = 3 then 256 else 0) → post (nI n) (b1, b2, upd a3 n 1, a4, a5, a6, a7, a8)) :
    wpX_ownNode_2 post (a1, a2, a3, a4, a5, a6, a7, a8) (-1) (nI l) := by
  refine br_t (by decide) (sn_free hn h3 h3n ⟨vp_in_nI hn (by decide), nm_r (e' := upd a3 n 1) (by rw [nI_clamp (by omega)]) ?_⟩)
  refine pk_loop (fun f i s => wX_ownNode_2_31 post (-1) (nI l) (nI n) f (nI i) s a2 (upd a3 n 1) a4 a5 a6 a7 a8) (fun i s => (∀ w, w < i → s (4 * n + w) = if l < 3 then -1 else 0) ∧ (∀ j, j < 4 * n → s j = a1 j)) 4 0 a1 (by omega) ⟨fun w hw => absurd hw (by omega), fun _ _ => rfl⟩ ?_ ?_
  · intro f s hs
    refine br_t (by decide) (br_f (by decide) ⟨vp_in_nI hn (by decide), nm_r (e' := upd a2 n 0) (by rw [nI_clamp (by omega)]) ?_⟩)
    refine pk_eq l 3 (fun e => ⟨vp_in_nI hn (by decide), vp_in_nI hn (by decide), nm_r (e' := upd (upd a2 n 0) n 256) ?_ (br_t (by decide) (H s _ hs.1 hs.2 ?_))⟩) (fun e => ⟨vp_in_nI hn (by decide), nm_r (e' := upd (upd a2 n 0) n 0) ?_ (br_t (by decide) (H s _ hs.1 hs.2 ?_))⟩)
    · rw [nI_clamp (by omega), pk_us]; rfl
    · rw [if_pos e, pk_us]
    · rw [nI_clamp (by omega)]
    · rw [if_neg e, pk_us]
  · intro f i s hi hs hw
    refine pk_le 4 i (fun z => absurd z (by omega)) (fun _ => br_f (by decide) ?_)
    refine pk_le 3 l (fun z => ?_) (fun z => ?_)
    · refine ⟨sn_in (by omega) (by decide), nm_r (e' := upd s (4 * n + i) 0) (by rw [sn_ix, nI_clamp (by omega)]) (pk_le 3 l (fun _ => nm_r (nI_1 i) (hw _ ?_)) (fun z2 => absurd z2 (by omega)))⟩
      exact ⟨sn_fillA hs.1 (by rw [if_neg (by omega)]), sn_fillB hs.2⟩
    · refine ⟨sn_in (by omega) (by decide), nm_r (e' := upd s (4 * n + i) (-1)) (by rw [sn_ix, nI_clamp (by omega)]) (pk_le 3 l (fun z2 => absurd z2 (by omega)) (fun _ => ⟨sn_in (by omega) (by decide), br_t ?_ (nm_r (nI_1 i) (hw _ ?_))⟩))⟩
      · rw [sn_ix, nI_clamp (by omega), pk_us]
        decide
      · exact ⟨sn_fillA hs.1 (by rw [if_pos z]), sn_fillB hs.2⟩
/-- a node that is the map's own stays -/
theorem sn_keep2 {post : Int32 → St2 → Prop} {n : Nat} {l : Int32} (hn : n < 400) (h3 : a3 n = 1) (H : post (nI n) (a1, a2, a3, a4, a5, a6, a7, a8)) : wpX_ownNode_2 post (a1, a2, a3, a4, a5, a6, a7, a8) (nI n) l :=
  br_f (nI_pos (by omega)) ⟨vp_in_nI hn (by decide), br_t (by rw [nI_clamp (by omega)]; exact h3) H⟩
/-! ===== ownPath ===== -/
/-- nodes 0 .. i of k's way are made -/
def sn_I (k i : Nat) (s : (Nat → Int32) × (Nat → Int32) × (Nat → Int32) × (Nat → Int32)) : Prop :=
  (∀ j w, j < i → w < 4 → s.1 (4 * j + w) = if w = sn_t k j then nI (j + 1) else -1) ∧ (i < 3 → ∀ w, w < 4 → s.1 (4 * i + w) = -1) ∧ (i = 3 → s.2.1 3 = 256) ∧ (∀ j, j ≤ i → s.2.2.1 j = 1) ∧ (∀ j, i < j → s.2.2.1 j = 0) ∧ (∀ j, j ≤ i → s.2.2.2 j = nI j)
theorem sn_I_step {k i : Nat} {b1 b2 c1 c2 c3 c7 : Nat → Int32} (hi : i < 3) (h : sn_I k i (c1, c2, c3, c7)) (hb : ∀ w, w < 4 → b1 (4 * (i + 1) + w) = if i + 1 < 3 then -1 else 0) (hk : ∀ j, j < 4 * (i + 1) → b1 j = c1 j) (h2 : b2 (i + 1) = if i + 1 = 3 then 256 else 0) :
    sn_I k (i + 1) (upd b1 (4 * i + sn_t k i) (nI (i + 1)), b2, upd c3 (i + 1) 1, upd c7 (i + 1) (nI (i + 1))) := by
  obtain ⟨g1, g2, g3, g4, g5, g6⟩ := h
  have ht := sn_t_lt k i
  refine ⟨fun j w hj hw => ?_, fun h w hw => ?_, fun e => ?_, fun j hj => ?_, fun j hj => ?_, fun j hj => ?_⟩
  · show upd b1 (4 * i + sn_t k i) (nI (i + 1)) (4 * j + w) = _
    by_cases ej : j = i
    · subst ej
      by_cases ew : w = sn_t k j
      · rw [if_pos ew, ew, pk_us]
      · rw [if_neg ew, pk_un (by omega), hk _ (by omega)]
        exact g2 hi w hw
    · rw [pk_un (by omega), hk _ (by omega)]
      exact g1 j w (by omega) hw
  · show upd b1 (4 * i + sn_t k i) (nI (i + 1)) (4 * (i + 1) + w) = _
    rw [pk_un (by omega), hb w hw, if_pos h]
  · show b2 3 = 256
    rw [e, if_pos rfl] at h2
    exact h2
  · show upd c3 (i + 1) 1 j = 1
    by_cases ej : j = i + 1
    · rw [ej, pk_us]
    · rw [pk_un ej]
      exact g4 j (by omega)
  · show upd c3 (i + 1) 1 j = 0
    rw [pk_un (by omega)]
    exact g5 j (by omega)
  · show upd c7 (i + 1) (nI (i + 1)) j = nI j
    by_cases ej : j = i + 1
    · rw [ej, pk_us]
    · rw [pk_un ej]
      exact g6 j (by omega)
/-- the first key's way is made -/
theorem sn_pathNew {post : Int32 → St2 → Prop} {k : Nat} (hk : k < 256) (h3 : ∀ j, a3 j = 0) (h5 : a5 0 = -1)
    (H : ∀ b1 b2 b3 b7, sn_I k 3 (b1, b2, b3, b7) → post (nI 3) (b1, b2, b3, a4, upd a5 0 0, a6, b7, a8)) : wpX_ownPath post (a1, a2, a3, a4, a5, a6, a7, a8) (nI k) := by
  unfold wpX_ownPath
  dsimp only
  rw [h5]
  refine sn_own1 (n := 0) (l := 0) (by decide) (by decide) (fun j hj => absurd hj (by omega)) (h3 0) (fun b1 b2 hb _ _ => ?_)
  refine nm_r (e' := upd a5 0 0) rfl (nm_r (e' := upd a7 0 (nI 0)) rfl ?_)
  refine pk_loop (fun f i s => wX_ownPath_31 post (nI k) f (nI i) s.1 s.2.1 s.2.2.1 a4 (upd a5 0 0) a6 s.2.2.2 a8) (sn_I k) 3 0 (b1, b2, upd a3 0 1, upd a7 0 (nI 0)) (by omega) ?_ ?_ ?_
  · refine ⟨fun j w hj => absurd hj (by omega), fun _ w hw => ?_, fun e => absurd e (by omega), fun j hj => ?_, fun j hj => ?_, fun j hj => ?_⟩
    · exact hb w hw
    · obtain rfl : j = 0 := by omega
      show upd a3 0 1 0 = 1
      exact pk_us
    · show upd a3 0 1 j = 0
      rw [pk_un (by omega)]
      exact h3 j
    · obtain rfl : j = 0 := by omega
      show upd a7 0 (nI 0) 0 = nI 0
      exact pk_us
  · rintro f ⟨c1, c2, c3, c7⟩ hs
    refine br_t (by decide) ?_
    have e7 : c7 3 = nI 3 := hs.2.2.2.2.2 3 (by omega)
    show post (c7 3) (c1, c2, c3, a4, upd a5 0 0, a6, c7, a8)
    rw [e7]
    exact H c1 c2 c3 c7 hs
  · rintro f i ⟨c1, c2, c3, c7⟩ hi hs hw
    have hs' := hs
    obtain ⟨g1, g2, g3, g4, g5, g6⟩ := hs
    have ht := sn_t_lt k i
    have e7 : c7 (nI i).toNatClampNeg = nI i := by
      rw [nI_clamp (by omega)]
      exact g6 i (by omega)
    have e1 : c1 (4 * i + sn_t k i) = -1 := g2 hi _ ht
    refine pk_le 3 i (fun z => absurd z (by omega)) (fun _ => ⟨vp_in_nI (by omega) (by decide), sn_turn hk hi (nm_r (e' := nI (4 * i + sn_t k i)) ?_ ⟨vp_in_nI (by omega) (by decide), ?_⟩)⟩)
    · show 4 * c7 (nI i).toNatClampNeg + nI (sn_t k i) = nI (4 * i + sn_t k i)
      rw [e7, sn_ix]
    · rw [nI_clamp (by omega), nI_1]
      show wpX_ownNode_2 _ (c1, c2, c3, a4, upd a5 0 0, a6, c7, a8) (c1 (4 * i + sn_t k i)) (nI (i + 1))
      rw [e1]
      refine sn_own2 (n := i + 1) (by omega) (by omega) (fun j hj => g4 j (by omega)) (g5 _ (by omega)) (fun d1 d2 q1 q2 q3 => ?_)
      refine ⟨vp_in_nI (by omega) (by decide), nm_e ⟨vp_in_nI (by omega) (by decide), vp_in_nI (by omega) (by decide), nm_r (e' := upd c7 (i + 1) (nI (i + 1))) ?_ (nm_e ?_)⟩⟩
      · rw [nI_clamp (by omega), pk_us]
      · exact hw (upd d1 (4 * i + sn_t k i) (nI (i + 1)), d2, upd c3 (i + 1) 1, upd c7 (i + 1) (nI (i + 1))) (sn_I_step hi hs' q1 q2 q3)
/-- the way is the map's own already -/
theorem sn_pathOwn {post : Int32 → St2 → Prop} {k : Nat} (hk : k < 256) (h1 : sn_W k a1) (h3 : ∀ j, j ≤ 3 → a3 j = 1) (h5 : a5 0 = 0) (h7 : ∀ j, j ≤ 3 → a7 j = nI j)
    (H : post (nI 3) (a1, a2, a3, a4, a5, a6, a7, a8)) : wpX_ownPath post (a1, a2, a3, a4, a5, a6, a7, a8) (nI k) := by
  unfold wpX_ownPath
  dsimp only
  rw [h5]
  refine sn_keep1 (n := 0) (by decide) (h3 0 (by omega)) ?_
  refine nm_r (e' := a5) (sn_self _ _ _ h5.symm) (nm_r (e' := a7) (sn_self _ _ _ ?_) ?_)
  · show a5 0 = a7 0
    rw [h5, h7 0 (by omega)]; rfl
  refine pk_loop (σ := Unit) (fun f i _ => wX_ownPath_31 post (nI k) f (nI i) a1 a2 a3 a4 a5 a6 a7 a8) (fun _ _ => True) 3 0 () (by omega) trivial ?_ ?_
  · intro f _ _
    refine br_t (by decide) ?_
    rw [h7 3 (by omega)]
    exact H
  · intro f i _ hi _ hw
    have ht := sn_t_lt k i
    have e7 : a7 (nI i).toNatClampNeg = nI i := by
      rw [nI_clamp (by omega)]
      exact h7 i (by omega)
    have e1 : a1 (4 * i + sn_t k i) = nI (i + 1) := by rw [h1 i _ hi ht, if_pos rfl]
    refine pk_le 3 i (fun z => absurd z (by omega)) (fun _ => ⟨vp_in_nI (by omega) (by decide), sn_turn hk hi (nm_r (e' := nI (4 * i + sn_t k i)) ?_ ⟨vp_in_nI (by omega) (by decide), ?_⟩)⟩)
    · rw [e7, sn_ix]
    · rw [nI_clamp (by omega), nI_1, e1]
      refine sn_keep2 (by omega) (h3 _ (by omega)) ?_
      refine ⟨vp_in_nI (by omega) (by decide), nm_r (e' := a1) (sn_self _ _ _ e1.symm) ⟨vp_in_nI (by omega) (by decide), vp_in_nI (by omega) (by decide), nm_r (e' := a7) ?_ (nm_e (hw () trivial))⟩⟩
      rw [nI_clamp (by omega), e1]
      exact sn_self _ _ _ (h7 _ (by omega)).symm
/-! ===== put ===== -/
theorem sn_put {post : Int32 → St2 → Prop} {k : Nat} {v : Int32} (hk : k < 256) (h3 : ∀ j, a3 j = 0) (h5 : a5 0 = -1) (h6 : a6 0 = 0)
    (H : ∀ b1 b2 b3 b5 b6 b7, sn_W k b1 → b1 (12 + k % 4) = v → b2 3 = 256 ||| ((1 : Int32) <<< (nI (k % 4) &&& 31)) → (∀ j, j ≤ 3 → b3 j = 1) → b5 0 = 0 → b6 0 = 1 → (∀ j, j ≤ 3 → b7 j = nI j) → post 1 (b1, b2, b3, a4, b5, b6, b7, a8)) :
    wpX_put post (a1, a2, a3, a4, a5, a6, a7, a8) (nI k) v := by
  refine br_f (nI_pos (by omega)) (br_t (show nI k ≤ nI 255 from nI_le (by omega) (by decide)) (sn_holds0 h5 (br_t rfl (br_t (by rw [h6]; decide) ?_))))
  refine sn_pathNew hk h3 h5 (fun b1 b2 b3 b7 hI => ?_)
  obtain ⟨g1, _, g3, g4, _, g6⟩ := hI
  have e2 : b2 3 = 256 := g3 rfl
  unfold sn_W at H
  rw [sn_and3 hk]
  refine ⟨sn_in (by omega) (by decide), nm_r (e' := upd b1 (12 + k % 4) v) ?_ ⟨vp_in_nI (by decide) (by decide), vp_in_nI (by decide) (by decide), nm_r (e' := upd b2 3 (256 ||| ((1 : Int32) <<< (nI (k % 4) &&& 31)))) ?_ (br_t rfl (nm_r (e' := upd a6 0 1) ?_ ?_))⟩⟩
  · rw [sn_ix, nI_clamp (by omega)]
  · rw [nI_clamp (by decide), e2]
  · rw [h6]; rfl
  · refine H _ _ _ _ _ _ (fun i w hi hw => ?_) pk_us pk_us g4 pk_us pk_us g6
    rw [pk_un (by omega)]
    exact g1 i w hi hw
theorem sn_put0 {post : Int32 → St2 → Prop} {q v : Int32} (hq : q < 0 ∨ 255 < q) (H : post (-1) (a1, a2, a3, a4, a5, a6, a7, a8)) : wpX_put post (a1, a2, a3, a4, a5, a6, a7, a8) q v :=
  br_c (fun _ => H) (fun z => br_f (Int32.not_le.mpr (hq.resolve_left z)) H)
/-! ===== remove ===== -/
theorem sn_leads {post : Int32 → Prop} {n : Nat} (hn : n < 400) (h1 : ∀ w, w < 4 → a1 (4 * n + w) = -1) (H : post 0) : wpX_leadsOn post (a1, a2, a3, a4, a5, a6, a7, a8) (nI n) :=
  pk_loop (σ := Unit) (fun f i _ => wX_leadsOn_2 post (nI n) a1 a2 a3 a4 a5 a6 a7 a8 f (nI i)) (fun _ _ => True) 4 0 () (by omega) trivial
    (fun f _ _ => br_t (by decide) H)
    (fun f i _ hi _ hw => pk_le 4 i (fun z => absurd z (by omega)) (fun _ => ⟨sn_in (by omega) (by decide), br_t (by rw [sn_ix, nI_clamp (by omega), h1 i hi]; decide) (nm_r (nI_1 i) (hw () trivial))⟩))
theorem sn_prune {post : St2 → Prop} {k : Nat} (hk : k < 256) (h1 : sn_W k a1) (h2 : a2 3 = 256) (h7 : ∀ j, j ≤ 3 → a7 j = nI j)
    (H : ∀ b1 b3 b5, post (b1, a2, b3, a4, b5, a6, a7, a8)) : wpX_prune post (a1, a2, a3, a4, a5, a6, a7, a8) (nI k) := by
  unfold wpX_prune
  dsimp only
  rw [h7 3 (by omega), nI_clamp (by decide), h2]
  refine ⟨vp_in_nI (by decide) (by decide), br_t (by decide) ⟨vp_in_nI (by decide) (by decide), nm_e ⟨4, ?_⟩⟩⟩
  have key := pk_loopD (fun n i (s : (Nat → Int32) × (Nat → Int32)) => wX_prune_32 post (nI k) n (nI i + (-1)) s.1 a2 s.2 a4 a5 a6 a7 a8) (fun i s => i ≤ 3 ∧ ∀ j, j < i → ∀ w, w < 4 → w ≠ sn_t k j → s.1 (4 * j + w) = -1) ?_ ?_ 3 (a1, upd a3 3 0) ⟨by omega, fun j hj w hw e => by show a1 (4 * j + w) = -1; rw [h1 j w hj hw, if_neg e]⟩
  · exact key
  · intro n s _
    exact br_t (by decide) (nm_e (H _ _ _))
  · rintro n i ⟨c1, c3⟩ ⟨hi, hs⟩ hw
    have ht := sn_t_lt k i
    have e7 : a7 (nI i).toNatClampNeg = nI i := by
      rw [nI_clamp (by omega)]
      exact h7 i (by omega)
    show wX_prune_32 post (nI k) (n + 1) (nI (i + 1) + (-1)) c1 a2 c3 a4 a5 a6 a7 a8
    rw [pk_m1]
    unfold wX_prune_32
    rw [e7]
    refine br_f (nI_pos (by omega)) ⟨vp_in_nI (by omega) (by decide), sn_turn hk (by omega) ⟨sn_in (by omega) (by decide), nm_r (e' := upd c1 (4 * i + sn_t k i) (-1)) (by rw [sn_ix, nI_clamp (by omega)]) ⟨vp_in_nI (by omega) (by decide), ?_⟩⟩⟩
    refine sn_leads (by omega) (fun w hw2 => ?_) (br_t rfl ⟨vp_in_nI (by omega) (by decide), vp_in_nI (by omega) (by decide), nm_e (nm_e (hw (_, _) ⟨by omega, fun j hj w hw2 e => ?_⟩))⟩)
    · by_cases e : w = sn_t k i
      · rw [e, pk_us]
      · rw [pk_un (by omega)]
        exact hs i (by omega) w hw2 e
    · show upd c1 (4 * i + sn_t k i) (-1) (4 * j + w) = -1
      rw [pk_un (by omega)]
      exact hs j (by omega) w hw2 e
theorem sn_remove {post : Int32 → St2 → Prop} {k : Nat} (hk : k < 256) (h1 : sn_W k a1) (h2 : a2 3 = 256 ||| ((1 : Int32) <<< (nI (k % 4) &&& 31))) (h3 : ∀ j, j ≤ 3 → a3 j = 1) (h5 : a5 0 = 0) (h6 : a6 0 = 1) (h7 : ∀ j, j ≤ 3 → a7 j = nI j)
    (H : ∀ u, post 0 u) : wpX_remove post (a1, a2, a3, a4, a5, a6, a7, a8) (nI k) := by
  refine br_f (nI_pos (by omega)) (br_f (show ¬ nI 255 < nI k from nI_nlt (by omega) (by decide)) (sn_holds hk h1 h2 h5 (br_f (by decide) ?_)))
  refine sn_pathOwn hk h1 h3 h5 h7 ⟨vp_in_nI (by decide) (by decide), vp_in_nI (by decide) (by decide), nm_r (e' := upd a2 3 256) ?_ ?_⟩
  · rw [sn_and3 hk, nI_clamp (by decide), h2, sn_clr_tab _ (Nat.mod_lt _ (by decide))]
  · refine sn_prune hk h1 pk_us h7 (fun b1 b3 b5 => nm_r (e' := upd a6 0 0) (by rw [h6]; rfl) ?_)
    exact H _
theorem sn_remove0 {post : Int32 → St2 → Prop} {q : Int32} (hq : q < 0 ∨ 255 < q) (H : ∀ u, post (-1) u) : wpX_remove post (a1, a2, a3, a4, a5, a6, a7, a8) q :=
  br_c (fun _ => H _) (fun z => br_t (hq.resolve_left z) (H _))
end
end
section
/-! ===== the constructor, and the law ===== -/
theorem sn_init {post : St2 → Prop} {mc ms : Nat} (hc : 8 ≤ mc) (hs : 2444 ≤ ms) (H : ∀ b5, b5 0 = -1 → post ((fun _ => 0), (fun _ => 0), (fun _ => 0), upd (fun _ => 0) 0 1, b5, (fun _ => 0), (fun _ => 0), (fun _ => 0))) : wpX_init post mc ms () := by
  refine ⟨by omega, by omega, by omega, by omega, by omega, by omega, by omega, by omega, by omega, by omega, by omega, by omega, by omega, by omega, by omega, by omega, nm_e ?_⟩
  exact pk_loop (fun f i s => wX_init_79 post mc ms 8 2444 f (nI i) (fun _ => 0) (fun _ => 0) (fun _ => 0) (upd (fun _ => 0) 0 1) s (fun _ => 0) (fun _ => 0) (fun _ => 0)) (fun i s => 0 < i → s 0 = -1) 8 0 (fun _ => 0) (by omega) (fun z => absurd z (by omega))
    (fun f s h => br_t (by decide) (H s (h (by omega))))
    (fun f i s hi h hw => pk_le 8 i (fun z => absurd z (by omega)) (fun _ => ⟨vp_in_nI hi (by decide), nm_r (e' := upd s i (-1)) (by rw [nI_clamp (by omega)]) (nm_r (nI_1 i) (hw _ (fun _ => by
      by_cases e : i = 0
      · subst e
        exact pk_us
      · rw [pk_un (by omega)]
        exact h (by omega))))⟩))
theorem sn_cell {post : Int32 → Prop} {L : Nat} {xs : Nat → Int32} (j : Nat) (hj : j < 4) (hL : L ≤ 4) (H : ∀ r, post r) : wpL_cellAt post L xs () (nI j) :=
  pk_le L j (fun _ => H 0) (fun z => ⟨vp_in_nI z (by omega), H _⟩)
section
variable {a1 a2 a3 a4 a5 a6 a7 a8 : Nat → Int32} {mc ms kc ks : Nat} {x0 x3 x5 : Int32}
/-- the law's last checks -/
theorem sn_t145 {z0 z1 : Int32} (hz : z1 = z0) (HR : ∀ ψ : Int32 → St2 → Prop, (∀ u, ψ (if x5 = 0 then -1 else 0) u) → wpX_remove ψ (a1, a2, a3, a4, a5, a6, a7, a8) x0) :
    wL_lawOf_145 (fun r _ => r = 1) mc ms x0 x5 z0 z1 kc ks a1 a2 a3 a4 a5 a6 a7 a8 := by
  refine br_t hz (HR _ (fun u => ?_))
  obtain ⟨b1, b2, b3, b4, b5, b6, b7, b8⟩ := u
  by_cases e : x5 = 0
  · rw [if_pos e]
    exact br_t e (br_t rfl rfl)
  · rw [if_neg e]
    exact br_f e (br_t rfl rfl)
theorem sn_t123 {z0 z1 : Int32} (hz : z1 = z0) (h40 : a4 0 = 1) (h4 : ∀ j, 0 < j → a4 j = 0) (HR : ∀ ψ : Int32 → St2 → Prop, (∀ u, ψ (if x5 = 0 then -1 else 0) u) → wpX_remove ψ (a1, a2, a3, a4, a5, a6, a7, a8) x0) :
    wL_lawOf_123 (fun r _ => r = 1) mc ms x0 x3 x5 z0 z1 kc ks a1 a2 a3 a4 a5 a6 a7 a8 :=
  br_t hz (sn_changes h40 h4 (fun e => br_t e (sn_t145 rfl HR)) (fun e => br_f e (sn_t145 rfl HR)))
theorem sn_t93 {z0 z1 : Int32} (hz : z1 = z0) (h40 : a4 0 = 1) (h4 : ∀ j, 0 < j → a4 j = 0) (h6 : a6 0 = if x5 = 0 then 0 else 1) (HR : ∀ ψ : Int32 → St2 → Prop, (∀ u, ψ (if x5 = 0 then -1 else 0) u) → wpX_remove ψ (a1, a2, a3, a4, a5, a6, a7, a8) x0) :
    wL_lawOf_93 (fun r _ => r = 1) mc ms x0 x3 x5 z0 z1 kc ks a1 a2 a3 a4 a5 a6 a7 a8 := by
  refine br_t hz (sn_size h40 h4 (fun e => br_t e ?_) (fun e => br_f e (sn_t123 rfl h40 h4 HR)))
  exact br_c (fun h => sn_t123 (by rw [h6, if_pos h]) h40 h4 HR) (fun h => sn_t123 (by rw [h6, if_neg h]) h40 h4 HR)
end
theorem sn_up4 : ∀ j, 0 < j → upd (fun _ => 0) 0 1 j = 0 := fun j hj => pk_un (by omega)
/-- a key that is none -/
theorem sn_bad {mc ms kc ks : Nat} {x0 x1 x2 x3 : Int32} {a5 : Nat → Int32} (hq : x0 < 0 ∨ 255 < x0) (h5 : a5 0 = -1) :
    wL_lawOf_24 (fun r _ => r = 1) mc ms x0 x1 x2 x3 kc ks (fun _ => 0) (fun _ => 0) (fun _ => 0) (upd (fun _ => 0) 0 1) a5 (fun _ => 0) (fun _ => 0) (fun _ => 0) := by
  unfold wL_lawOf_24 wL_lawOf_25
  refine sn_put0 hq (br_t rfl (br_t rfl (sn_get0 hq pk_us sn_up4 (br_t rfl (br_t rfl (sn_nextE pk_us sn_up4 h5 (br_t rfl ?_)))))))
  exact sn_t93 rfl pk_us sn_up4 rfl (fun ψ h => sn_remove0 hq (fun u => h u))
/-- a key -/
theorem sn_good {mc ms kc ks k : Nat} {x1 x2 x3 : Int32} {a5 : Nat → Int32} (hk : k < 256) (h5 : a5 0 = -1) :
    wL_lawOf_25 (fun r _ => r = 1) mc ms (nI k) x1 x2 x3 1 kc ks (fun _ => 0) (fun _ => 0) (fun _ => 0) (upd (fun _ => 0) 0 1) a5 (fun _ => 0) (fun _ => 0) (fun _ => 0) := by
  unfold wL_lawOf_25
  refine sn_put hk (fun _ => rfl) h5 rfl (fun b1 b2 b3 b5 b6 b7 g1 gv g2 g3 g5 g6 g7 => ?_)
  refine br_f (by decide) (br_t rfl (sn_get hk g1 gv g2 pk_us sn_up4 g5 (br_f (by decide) (br_t rfl ?_))))
  have tail : ∀ z : Int32, wL_lawOf_93 (fun r _ => r = 1) mc ms (nI k) x3 1 z z kc ks b1 b2 b3 (upd (fun _ => 0) 0 1) b5 b6 b7 (fun _ => 0) :=
    fun z => sn_t93 rfl pk_us sn_up4 (by rw [g6]; rfl) (fun ψ h => sn_remove hk g1 g2 g3 g5 g6 g7 (fun u => h u))
  exact sn_next hk g1 g2 pk_us sn_up4 g5 (fun e => br_f (by decide) (br_f e (tail _))) (fun e => br_f (by decide) (br_t e (tail _)))
theorem i_vc (xs : Nat → Int32) (L : Nat) (hL : L ≤ 4) : wpL_law (fun r => r = 1) L xs := by
  refine sn_cell 0 (by decide) hL (fun x0 => sn_cell 1 (by decide) hL (fun x1 => sn_cell 2 (by decide) hL (fun x2 => sn_cell 3 (by decide) hL (fun x3 => ?_))))
  refine ⟨9, 2452, by decide, by decide, by decide, by decide, 8, 2444, by decide, by decide, sn_init (by decide) (by decide) (fun b5 h5 => ?_)⟩
  refine br_c (fun h => sn_bad (Or.inl h) h5) (fun h => br_c (fun h2 => sn_bad (Or.inr h2) h5) (fun h2 => ?_))
  obtain ⟨k, hk, rfl⟩ := nI_of2 (M := 255) (n := 255) (by decide) h (Int32.not_lt.mp h2)
  exact sn_good (by omega) h5
end
