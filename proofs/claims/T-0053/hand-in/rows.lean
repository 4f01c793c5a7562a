section
/-- how many of a 0 .. a (n - 1) satisfy p -/
def si_cn (p : Int32 → Bool) (a : Nat → Int32) : Nat → Nat
  | 0 => 0
  | n + 1 => si_cn p a n + (p (a n)).toNat
theorem si_cn_s (p : Int32 → Bool) (a : Nat → Int32) (n : Nat) : si_cn p a (n + 1) = si_cn p a n + (p (a n)).toNat := rfl
theorem si_cn_le (p : Int32 → Bool) (a : Nat → Int32) : ∀ n, si_cn p a n ≤ n := by
  intro n
  induction n with
  | zero => exact Nat.le_refl _
  | succ n ih =>
    rw [si_cn_s]
    have h : (p (a n)).toNat ≤ 1 := Bool.toNat_le _
    omega
theorem si_cn_congr {p : Int32 → Bool} {a b : Nat → Int32} : ∀ n, (∀ i, i < n → a i = b i) → si_cn p a n = si_cn p b n := by
  intro n
  induction n with
  | zero => intro _; rfl
  | succ n ih =>
    intro h
    rw [si_cn_s, si_cn_s, ih (fun i hi => h i (by omega)), h n (by omega)]
theorem si_cn_zero {p : Int32 → Bool} {a : Nat → Int32} : ∀ n, (∀ i, i < n → p (a i) = false) → si_cn p a n = 0 := by
  intro n
  induction n with
  | zero => intro _; rfl
  | succ n ih =>
    intro h
    rw [si_cn_s, ih (fun i hi => h i (by omega)), h n (by omega)]
    rfl
theorem si_cn_pos {p : Int32 → Bool} {a : Nat → Int32} : ∀ n i, i < n → p (a i) = true → 0 < si_cn p a n := by
  intro n
  induction n with
  | zero => intro i hi; omega
  | succ n ih =>
    intro i hi hp
    rw [si_cn_s]
    by_cases h : i = n
    · subst h
      rw [hp]
      exact Nat.succ_pos _
    · have := ih i (by omega) hp
      omega
theorem si_cn_ex {p : Int32 → Bool} {a : Nat → Int32} {n : Nat} (h : 0 < si_cn p a n) : ∃ i, i < n ∧ p (a i) = true := by
  apply Classical.byContradiction
  intro hn
  have z : si_cn p a n = 0 := by
    apply si_cn_zero
    intro i hi
    cases hp : p (a i) with
    | false => rfl
    | true => exact absurd ⟨i, hi, hp⟩ hn
  omega
theorem si_us {f : Nat → Int32} {k : Nat} {x : Int32} : upd f k x k = x := if_pos rfl
theorem si_un {f : Nat → Int32} {k j : Nat} {x : Int32} (h : j ≠ k) : upd f k x j = f j := if_neg h
theorem si_cn_out {p : Int32 → Bool} {a : Nat → Int32} {n k : Nat} {x : Int32} (h : n ≤ k) : si_cn p (upd a k x) n = si_cn p a n :=
  si_cn_congr n fun _ hi => si_un (by omega)
/-- a store below n takes one value out and puts one in -/
theorem si_cn_in {p : Int32 → Bool} {a : Nat → Int32} {k : Nat} {x : Int32} : ∀ n, k < n → si_cn p (upd a k x) n + (p (a k)).toNat = si_cn p a n + (p x).toNat := by
  intro n
  induction n with
  | zero => intro h; omega
  | succ n ih =>
    intro h
    rw [si_cn_s, si_cn_s]
    by_cases e : k = n
    · subst e
      rw [si_cn_out (Nat.le_refl _), si_us]
      omega
    · have := ih (by omega)
      rw [si_un (Ne.symm e)]
      omega
/-- an insertion at q puts one value in -/
theorem si_cn_insert {p : Int32 → Bool} {a a' : Nat → Int32} {q : Nat} {x : Int32} (h0 : ∀ i, i < q → a' i = a i) (h1 : a' q = x) : ∀ n, q ≤ n → (∀ i, q ≤ i → i < n → a' (i + 1) = a i) → si_cn p a' (n + 1) = si_cn p a n + (p x).toNat := by
  intro n
  induction n with
  | zero =>
    intro h _
    have e : q = 0 := by omega
    subst e
    rw [si_cn_s, h1]
    rfl
  | succ n ih =>
    intro h h2
    by_cases e : q = n + 1
    · subst e
      rw [si_cn_s p a' (n + 1), h1, si_cn_congr (n + 1) h0]
    · rw [si_cn_s p a' (n + 1), ih (by omega) (fun i hi hi' => h2 i hi (by omega)), h2 n (by omega) (by omega), si_cn_s p a n]
      omega
/-- a removal at q takes one value out -/
theorem si_cn_delete {p : Int32 → Bool} {a a' : Nat → Int32} {q : Nat} (h0 : ∀ i, i < q → a' i = a i) : ∀ m, q ≤ m → (∀ i, q ≤ i → i < m → a' i = a (i + 1)) → si_cn p a' m + (p (a q)).toNat = si_cn p a (m + 1) := by
  intro m
  induction m with
  | zero =>
    intro h _
    have e : q = 0 := by omega
    subst e
    rfl
  | succ m ih =>
    intro h h2
    by_cases e : q = m + 1
    · subst e
      rw [si_cn_s p a (m + 1), si_cn_congr (m + 1) h0]
    · rw [si_cn_s p a' m, h2 m (by omega) (by omega), si_cn_s p a (m + 1), ← ih (by omega) (fun i hi hi' => h2 i hi (by omega))]
      omega
/-- p holds below i and nowhere else below n: i of them -/
theorem si_cn_cut {p : Int32 → Bool} {a : Nat → Int32} : ∀ n i, i ≤ n → (∀ j, j < i → p (a j) = true) → (∀ j, i ≤ j → j < n → p (a j) = false) → si_cn p a n = i := by
  intro n
  induction n with
  | zero =>
    intro i hi _ _
    have e : i = 0 := by omega
    subst e
    rfl
  | succ n ih =>
    intro i hi h1 h2
    rw [si_cn_s]
    by_cases e : i = n + 1
    · subst e
      rw [ih n (Nat.le_refl _) (fun j hj => h1 j (by omega)) (fun j hj hj' => by omega), h1 n (by omega)]
      rfl
    · rw [ih i (by omega) h1 (fun j hj hj' => h2 j hj (by omega)), h2 n (by omega) (by omega)]
      rfl
/-- strictly ascending below n -/
def si_srt (a : Nat → Int32) (n : Nat) : Prop := ∀ i j, i < j → j < n → (a i).toInt < (a j).toInt
/-- the rank of a member of an ascending array is its index -/
theorem si_rank {a : Nat → Int32} {n i : Nat} (hs : si_srt a n) (hi : i < n) : si_cn (fun x => decide (x < a i)) a n = i := by
  apply si_cn_cut n i (by omega)
  · intro j hj
    exact decide_eq_true (Int32.lt_iff_toInt_lt.mpr (hs j i hj hi))
  · intro j hj hjn
    apply decide_eq_false
    intro h
    have h' := Int32.lt_iff_toInt_lt.mp h
    by_cases e : i = j
    · subst e; omega
    · have := hs i j (by omega) hjn
      omega
/-- the same multiset, the same members -/
theorem si_mem {a b : Nat → Int32} {n : Nat} (hp : ∀ p, si_cn p a n = si_cn p b n) {x : Int32} (h : ∃ i, i < n ∧ a i = x) : ∃ i, i < n ∧ b i = x := by
  obtain ⟨i, hi, e⟩ := h
  have h1 : 0 < si_cn (fun y => decide (y = x)) a n := si_cn_pos n i hi (decide_eq_true e)
  rw [hp] at h1
  obtain ⟨j, hj, ej⟩ := si_cn_ex h1
  exact ⟨j, hj, of_decide_eq_true ej⟩
/-- the value of rank i, in any array with the values of an ascending one -/
theorem si_rank_b {a b : Nat → Int32} {n i j : Nat} (hs : si_srt a n) (hp : ∀ p, si_cn p a n = si_cn p b n) (hj : j < n) (h : si_cn (fun x => decide (x < b j)) b n = i) : b j = a i := by
  obtain ⟨t, ht, e⟩ := si_mem (fun p => (hp p).symm) ⟨j, hj, rfl⟩
  rw [← hp, ← e, si_rank hs ht] at h
  rw [← e, h]
/-- some place of b has rank i -/
theorem si_rank_ex {a b : Nat → Int32} {n i : Nat} (hs : si_srt a n) (hp : ∀ p, si_cn p a n = si_cn p b n) (hi : i < n) : ∃ j, j < n ∧ si_cn (fun x => decide (x < b j)) b n = i := by
  obtain ⟨j, hj, e⟩ := si_mem hp ⟨i, hi, rfl⟩
  refine ⟨j, hj, ?_⟩
  rw [e, ← hp]
  exact si_rank hs hi
/-- w with x put in at q, those from q to i - 1 moved up -/
def si_ins (w : Nat → Int32) (q : Nat) (x : Int32) (i : Nat) : Nat → Int32 := fun t => if t < q then w t else if t = q then x else if t ≤ i then w (t - 1) else w t
theorem si_ins_0 (w : Nat → Int32) (q : Nat) (x : Int32) : upd w q x = si_ins w q x q := by
  funext t
  unfold upd si_ins
  by_cases h : t = q
  · rw [if_pos h, if_neg (by omega), if_pos h]
  · by_cases h2 : t < q
    · rw [if_neg h, if_pos h2]
    · rw [if_neg h, if_neg h2, if_neg h, if_neg (by omega)]
theorem si_ins_s {w : Nat → Int32} {q i : Nat} (x : Int32) (h : q ≤ i) : si_ins (upd w (i + 1) (w i)) q x i = si_ins w q x (i + 1) := by
  funext t
  unfold si_ins
  by_cases h1 : t < q
  · rw [if_pos h1, if_pos h1, si_un (by omega)]
  · rw [if_neg h1, if_neg h1]
    by_cases h2 : t = q
    · rw [if_pos h2, if_pos h2]
    · rw [if_neg h2, if_neg h2]
      by_cases h3 : t ≤ i
      · rw [if_pos h3, if_pos (by omega), si_un (by omega)]
      · rw [if_neg h3]
        by_cases h4 : t = i + 1
        · subst h4
          rw [if_pos (Nat.le_refl _), si_us]
          rfl
        · rw [if_neg (by omega), si_un h4]
theorem si_ins_lo {w : Nat → Int32} {q i t : Nat} {x : Int32} (h : t < q) : si_ins w q x i t = w t := if_pos h
theorem si_ins_at {w : Nat → Int32} {q i : Nat} {x : Int32} : si_ins w q x i q = x := by
  unfold si_ins
  rw [if_neg (by omega), if_pos rfl]
theorem si_ins_hi {w : Nat → Int32} {q i t : Nat} {x : Int32} (h : q ≤ t) (h2 : t < i) : si_ins w q x i (t + 1) = w t := by
  unfold si_ins
  rw [if_neg (by omega), if_neg (by omega), if_pos (by omega)]
  rfl
/-- w with the value at q taken out, those from q + 1 to m moved down -/
def si_del (w : Nat → Int32) (q : Nat) (m : Nat) : Nat → Int32 := fun t => if t < q then w t else if t < m then w (t + 1) else w t
theorem si_del_0 (w : Nat → Int32) (m : Nat) : si_del w m m = w := by
  funext t
  unfold si_del
  by_cases h : t < m
  · rw [if_pos h]
  · rw [if_neg h, if_neg h]
theorem si_del_s {w : Nat → Int32} {i m : Nat} (h : i < m) : si_del (upd w i (w (i + 1))) (i + 1) m = si_del w i m := by
  funext t
  unfold si_del
  by_cases h1 : t < i
  · rw [if_pos (by omega), if_pos h1, si_un (by omega)]
  · rw [if_neg h1]
    by_cases h2 : t = i
    · subst h2
      rw [if_pos (by omega), if_pos h, si_us]
    · rw [if_neg (by omega)]
      by_cases h3 : t < m
      · rw [if_pos h3, if_pos h3, si_un (by omega)]
      · rw [if_neg h3, if_neg h3, si_un (by omega)]
theorem si_del_lo {w : Nat → Int32} {q m t : Nat} (h : t < q) : si_del w q m t = w t := if_pos h
theorem si_del_hi {w : Nat → Int32} {q m t : Nat} (h : q ≤ t) (h2 : t < m) : si_del w q m t = w (t + 1) := by
  unfold si_del
  rw [if_neg (by omega), if_pos h2]
/-- an insertion where it belongs keeps the order -/
theorem si_srt_ins {a : Nat → Int32} {n q : Nat} {x : Int32} (hs : si_srt a n) (hq : q ≤ n) (hlo : ∀ i, i < q → (a i).toInt < x.toInt) (hhi : ∀ i, q ≤ i → i < n → x.toInt < (a i).toInt) : si_srt (si_ins a q x n) (n + 1) := by
  intro i j hij hj
  by_cases h1 : j < q
  · rw [si_ins_lo (by omega), si_ins_lo h1]
    exact hs i j hij (by omega)
  · by_cases h2 : j = q
    · subst h2
      rw [si_ins_lo hij, si_ins_at]
      exact hlo i hij
    · obtain ⟨j', rfl⟩ : ∃ j', j = j' + 1 := ⟨j - 1, by omega⟩
      rw [si_ins_hi (t := j') (by omega) (by omega)]
      by_cases h3 : i < q
      · rw [si_ins_lo h3]
        by_cases h4 : i = j'
        · omega
        · exact hs i j' (by omega) (by omega)
      · by_cases h4 : i = q
        · subst h4
          rw [si_ins_at]
          exact hhi j' (by omega) (by omega)
        · obtain ⟨i', rfl⟩ : ∃ i', i = i' + 1 := ⟨i - 1, by omega⟩
          rw [si_ins_hi (t := i') (by omega) (by omega)]
          exact hs i' j' (by omega) (by omega)
/-- a removal keeps the order -/
theorem si_srt_del {a : Nat → Int32} {m q : Nat} (hs : si_srt a (m + 1)) : si_srt (upd (si_del a q m) m 0) m := by
  intro i j hij hj
  rw [si_un (by omega), si_un (by omega)]
  by_cases h1 : j < q
  · rw [si_del_lo (by omega), si_del_lo h1]
    exact hs i j hij (by omega)
  · rw [si_del_hi (t := j) (by omega) hj]
    by_cases h2 : i < q
    · rw [si_del_lo h2]
      exact hs i (j + 1) (by omega) (by omega)
    · rw [si_del_hi (t := i) (by omega) (by omega)]
      exact hs (i + 1) (j + 1) (by omega) (by omega)
end
section
theorem si_m1 (n : Nat) : nI (n + 1) + (-1) = nI n := by
  rw [← nI_1, Int32.add_assoc, show (1 : Int32) + (-1) = 0 from rfl, Int32.add_zero]
theorem si_ne_of {x y : Int32} (h : ¬ x = y) : x.toInt ≠ y.toInt := fun e => h (Int32.toInt_inj.mp e)
theorem si_nle {x y : Int32} (h : ¬ x ≤ y) : y.toInt < x.toInt := by
  rw [Int32.le_iff_toInt_le] at h
  omega

/-! X's add: the search, the shift, the whole -/
theorem si_xa2 {c n : Nat} {a : Nat → Int32} {key : Int32} (hn : n ≤ 16) : ∀ d s : Nat, s + d = n → (∀ i, i < s → (a i).toInt < key.toInt) →
    ∃ q, q ≤ n ∧ (∀ i, i < q → (a i).toInt < key.toInt) ∧ (q < n → key.toInt ≤ (a q).toInt) ∧
      ∀ post : Int32 → SX → Prop, wX_add_26 post key (nI q) (nI c) (nI n) a → wX_add_2 post key (nI c) (nI n) a (d + 1) (nI s) := by
  intro d
  induction d with
  | zero =>
    intro s hs hlo
    exact ⟨s, by omega, hlo, by omega, fun _ h => br_t (nI_le (by omega) (by omega)) h⟩
  | succ d ih =>
    intro s hs hlo
    have hlt : ¬ nI n ≤ nI s := nI_ge (by omega) (by omega)
    have hin : vp_in (nI s) 16 := vp_in_nI (by omega) (by omega)
    by_cases hk : key ≤ a (nI s).toNatClampNeg
    · refine ⟨s, by omega, hlo, fun _ => ?_, fun _ h => br_f hlt ⟨hin, br_t hk h⟩⟩
      rw [nI_clamp (by omega)] at hk
      exact Int32.le_iff_toInt_le.mp hk
    · obtain ⟨q, h1, h2, h3, h4⟩ := ih (s + 1) (by omega) (lt_s hlo (by
        have h := si_nle hk
        rw [nI_clamp (by omega)] at h
        exact h))
      refine ⟨q, h1, h2, h3, fun post h => br_f hlt ⟨hin, br_f hk fun y ey => ?_⟩⟩
      rw [ey, nI_1]
      exact h4 post h
theorem si_xa64 {c n q : Nat} {key : Int32} {post : Int32 → SX → Prop} (hn : n < 16) : ∀ (d i : Nat) (w : Nat → Int32), q + d = i → i ≤ n → post 1 (nI c, nI (n + 1), si_ins w q key i) → wX_add_64 post key (nI q) (nI c) (nI n) (d + 1) (nI i) w := by
  intro d
  induction d with
  | zero =>
    intro i w hi hin hp
    have e : i = q := by omega
    subst e
    refine br_t (nI_le (Nat.le_refl _) (by omega)) ⟨vp_in_nI (by omega) (by omega), fun z ez y ey => ?_⟩
    rw [nI_clamp (by omega), si_ins_0] at ez
    rw [nI_1] at ey
    rw [ez, ey]
    exact hp
  | succ d ih =>
    intro i w hi hin hp
    obtain ⟨j, rfl⟩ : ∃ j, i = j + 1 := ⟨i - 1, by omega⟩
    refine br_f (nI_ge (by omega) (by omega)) ⟨?_, vp_in_nI (by omega) (by omega), fun z ez y ey => ?_⟩
    · rw [nI_pred]
      exact vp_in_nI (by omega) (by omega)
    · rw [nI_pred, nI_clamp (by omega), nI_clamp (by omega)] at ez
      rw [si_m1] at ey
      rw [ez, ey]
      exact ih j _ (by omega) (by omega) (by rw [si_ins_s key (by omega)]; exact hp)
theorem si_xadd {c n : Nat} {a : Nat → Int32} {key : Int32} {post : Int32 → SX → Prop} (hc : n ≤ c) (h16 : c ≤ 16) (hs : si_srt a n)
    (h2 : (∃ i, i < n ∧ a i = key) → post 2 (nI c, nI n, a))
    (h3 : (∀ i, i < n → a i ≠ key) → n = c → post 3 (nI c, nI n, a))
    (h1 : (∀ i, i < n → a i ≠ key) → n < c → ∀ q, q ≤ n → (∀ i, i < q → (a i).toInt < key.toInt) → (∀ i, q ≤ i → i < n → key.toInt < (a i).toInt) → post 1 (nI c, nI (n + 1), si_ins a q key n)) :
    wpX_add post (nI c, nI n, a) key := by
  obtain ⟨q, hq, hlo, hhi, W⟩ := si_xa2 (c := c) (n := n) (a := a) (key := key) (by omega) n 0 (by omega) (fun i hi => absurd hi (Nat.not_lt_zero i))
  have W0 := W post
  rw [nI_0] at W0
  have K : (q < n → ¬ a q = key) → wX_add_46 post key (nI q) (nI c) (nI n) a := by
    intro hne
    have hup : ∀ i, q ≤ i → i < n → key.toInt < (a i).toInt := by
      intro i hi hin
      have z1 := hhi (by omega)
      have z2 := si_ne_of (hne (by omega))
      by_cases e : q = i
      · subst e; omega
      · have := hs q i (by omega) hin
        omega
    have hno : ∀ i, i < n → a i ≠ key := by
      intro i hin e
      by_cases h : i < q
      · have := hlo i h
        rw [e] at this
        omega
      · have := hup i (by omega) hin
        rw [e] at this
        omega
    unfold wX_add_46
    by_cases hlt : n < c
    · exact br_t (nI_lt hlt (by omega)) ⟨(n - q) + 1, si_xa64 (by omega) (n - q) n a (by omega) (Nat.le_refl _) (h1 hno hlt q hq hlo hup)⟩
    · exact br_f (nI_nlt (by omega) (by omega)) (h3 hno (by omega))
  refine ⟨n + 1, W0 ?_⟩
  unfold wX_add_26
  by_cases hqn : n ≤ q
  · exact br_t (nI_le hqn (by omega)) (K (fun h => absurd h (by omega)))
  · refine br_f (nI_ge (by omega) (by omega)) ⟨vp_in_nI (by omega) (by omega), ?_⟩
    rw [nI_clamp (by omega)]
    exact br_c (fun e => h2 ⟨q, by omega, e⟩) (fun e => K (fun _ => e))

/-! X's remove: the search, the shift, the whole -/
theorem si_xr2 {c n : Nat} {a : Nat → Int32} {key : Int32} (hn : n ≤ 16) : ∀ d s : Nat, s + d = n → (∀ i, i < s → (a i).toInt < key.toInt) →
    ∃ q, q ≤ n ∧ (∀ i, i < q → (a i).toInt < key.toInt) ∧ (q < n → key.toInt ≤ (a q).toInt) ∧
      ∀ post : Int32 → SX → Prop, wX_remove_26 post key (nI q) (nI c) (nI n) a → wX_remove_2 post key (nI c) (nI n) a (d + 1) (nI s) := by
  intro d
  induction d with
  | zero =>
    intro s hs hlo
    exact ⟨s, by omega, hlo, by omega, fun _ h => br_t (nI_le (by omega) (by omega)) h⟩
  | succ d ih =>
    intro s hs hlo
    have hlt : ¬ nI n ≤ nI s := nI_ge (by omega) (by omega)
    have hin : vp_in (nI s) 16 := vp_in_nI (by omega) (by omega)
    by_cases hk : key ≤ a (nI s).toNatClampNeg
    · refine ⟨s, by omega, hlo, fun _ => ?_, fun _ h => br_f hlt ⟨hin, br_t hk h⟩⟩
      rw [nI_clamp (by omega)] at hk
      exact Int32.le_iff_toInt_le.mp hk
    · obtain ⟨q, h1, h2, h3, h4⟩ := ih (s + 1) (by omega) (lt_s hlo (by
        have h := si_nle hk
        rw [nI_clamp (by omega)] at h
        exact h))
      refine ⟨q, h1, h2, h3, fun post h => br_f hlt ⟨hin, br_f hk fun y ey => ?_⟩⟩
      rw [ey, nI_1]
      exact h4 post h
theorem si_xr48 {c m : Nat} {post : Int32 → SX → Prop} (hm : m < 16) : ∀ (d i : Nat) (w : Nat → Int32), i + d = m → post 1 (nI c, nI m, upd (si_del w i m) m 0) → wX_remove_48 post (nI c) (nI (m + 1)) (d + 1) (nI i) w := by
  intro d
  induction d with
  | zero =>
    intro i w hi hp
    have e : i = m := by omega
    subst e
    rw [si_del_0] at hp
    unfold wX_remove_48
    rw [nI_pred]
    refine br_t (nI_le (Nat.le_refl _) (by omega)) fun y ey => ?_
    rw [ey]
    refine ⟨vp_in_nI (by omega) (by omega), fun z ez => ?_⟩
    rw [nI_clamp (by omega)] at ez
    rw [ez]
    exact hp
  | succ d ih =>
    intro i w hi hp
    unfold wX_remove_48
    rw [nI_pred]
    refine br_f (nI_ge (by omega) (by omega)) ⟨?_, vp_in_nI (by omega) (by omega), fun z ez y ey => ?_⟩
    · rw [nI_1]
      exact vp_in_nI (by omega) (by omega)
    · rw [nI_1, nI_clamp (by omega), nI_clamp (by omega)] at ez
      rw [nI_1] at ey
      rw [ez, ey]
      exact ih (i + 1) _ (by omega) (by rw [si_del_s (by omega)]; exact hp)
theorem si_xremove {c n : Nat} {a : Nat → Int32} {key : Int32} {post : Int32 → SX → Prop} (h16 : n ≤ 16) (hs : si_srt a n)
    (h4 : (∀ i, i < n → a i ≠ key) → post 4 (nI c, nI n, a))
    (h1 : ∀ q m, n = m + 1 → q ≤ m → a q = key → post 1 (nI c, nI m, upd (si_del a q m) m 0)) :
    wpX_remove post (nI c, nI n, a) key := by
  obtain ⟨q, hq, hlo, hhi, W⟩ := si_xr2 (c := c) (n := n) (a := a) (key := key) (by omega) n 0 (by omega) (fun i hi => absurd hi (Nat.not_lt_zero i))
  have W0 := W post
  rw [nI_0] at W0
  have K : (q < n → ¬ a q = key) → post 4 (nI c, nI n, a) := by
    intro hne
    apply h4
    intro i hin e
    by_cases h : i < q
    · have := hlo i h
      rw [e] at this
      omega
    · have z1 := hhi (by omega)
      have z2 := si_ne_of (hne (by omega))
      by_cases e' : q = i
      · subst e'
        exact hne hin e
      · have := hs q i (by omega) hin
        rw [e] at this
        omega
  refine ⟨n + 1, W0 ?_⟩
  unfold wX_remove_26
  by_cases hqn : n ≤ q
  · exact br_t (nI_le hqn (by omega)) (K (fun h => absurd h (by omega)))
  · refine br_f (nI_ge (by omega) (by omega)) ⟨vp_in_nI (by omega) (by omega), ?_⟩
    rw [nI_clamp (by omega)]
    refine br_c (fun e => ?_) (fun e => K (fun _ => e))
    obtain ⟨m, rfl⟩ : ∃ m, n = m + 1 := ⟨n - 1, by omega⟩
    exact ⟨(m - q) + 1, si_xr48 (by omega) (m - q) q a (by omega) (h1 q m rfl (by omega) e)⟩

/-! contains, of both sides -/
theorem si_xc2 {c n : Nat} {a : Nat → Int32} {key : Int32} {post : Int32 → Prop} (hn : n ≤ 16) (h0 : (∀ i, i < n → a i ≠ key) → post 0) (h1 : (∃ i, i < n ∧ a i = key) → post 1) : ∀ d s : Nat, s + d = n → (∀ i, i < s → a i ≠ key) → wX_contains_2 post key (nI c) (nI n) a (d + 1) (nI s) := by
  intro d
  induction d with
  | zero =>
    intro s hs hlo
    have e : s = n := by omega
    subst e
    exact br_t (nI_le (by omega) (by omega)) (h0 hlo)
  | succ d ih =>
    intro s hs hlo
    refine br_f (nI_ge (by omega) (by omega)) ⟨vp_in_nI (by omega) (by omega), ?_⟩
    rw [nI_clamp (by omega)]
    refine br_c (fun e => h1 ⟨s, by omega, e⟩) (fun e y ey => ?_)
    rw [ey, nI_1]
    exact ih (s + 1) (by omega) (lt_s hlo e)
theorem si_xcontains {c n : Nat} {a : Nat → Int32} {key : Int32} {post : Int32 → Prop} (hn : n ≤ 16) (h0 : (∀ i, i < n → a i ≠ key) → post 0) (h1 : (∃ i, i < n ∧ a i = key) → post 1) : wpX_contains post (nI c, nI n, a) key := by
  have h := si_xc2 (c := c) hn h0 h1 n 0 (by omega) (fun i hi => absurd hi (Nat.not_lt_zero i))
  rw [nI_0] at h
  exact ⟨n + 1, h⟩
theorem si_yc2 {c n : Nat} {b : Nat → Int32} {key : Int32} {post : Int32 → Prop} (hn : n ≤ 16) (h0 : (∀ i, i < n → b i ≠ key) → post 0) (h1 : (∃ i, i < n ∧ b i = key) → post 1) : ∀ d s : Nat, s + d = n → (∀ i, i < s → b i ≠ key) → wY_contains_2 post key (nI c) (nI n) b (d + 1) (nI s) := by
  intro d
  induction d with
  | zero =>
    intro s hs hlo
    have e : s = n := by omega
    subst e
    exact br_t (nI_le (by omega) (by omega)) (h0 hlo)
  | succ d ih =>
    intro s hs hlo
    refine br_f (nI_ge (by omega) (by omega)) ⟨vp_in_nI (by omega) (by omega), ?_⟩
    rw [nI_clamp (by omega)]
    refine br_c (fun e => h1 ⟨s, by omega, e⟩) (fun e y ey => ?_)
    rw [ey, nI_1]
    exact ih (s + 1) (by omega) (lt_s hlo e)
theorem si_ycontains {c n : Nat} {b : Nat → Int32} {key : Int32} {post : Int32 → Prop} (hn : n ≤ 16) (h0 : (∀ i, i < n → b i ≠ key) → post 0) (h1 : (∃ i, i < n ∧ b i = key) → post 1) : wpY_contains post (nI c, nI n, b) key := by
  have h := si_yc2 (c := c) hn h0 h1 n 0 (by omega) (fun i hi => absurd hi (Nat.not_lt_zero i))
  rw [nI_0] at h
  exact ⟨n + 1, h⟩

/-! Y's add, remove -/
theorem si_yadd {c n : Nat} {b : Nat → Int32} {key : Int32} {post : Int32 → SY → Prop} (hc : n ≤ c) (h16 : c ≤ 16)
    (h2 : (∃ i, i < n ∧ b i = key) → post 2 (nI c, nI n, b))
    (h3 : (∀ i, i < n → b i ≠ key) → n = c → post 3 (nI c, nI n, b))
    (h1 : (∀ i, i < n → b i ≠ key) → n < c → post 1 (nI c, nI (n + 1), upd b n key)) :
    wpY_add post (nI c, nI n, b) key := by
  unfold wpY_add
  dsimp only
  refine si_ycontains (by omega) (fun hno => ?_) (fun hm => br_f (by decide) (h2 hm))
  refine br_t rfl ?_
  by_cases e : n = c
  · exact br_t (by rw [e]) (h3 hno e)
  · refine br_f (fun h => e ((nI_eq (by omega) (by omega)).mp h)) ⟨vp_in_nI (by omega) (by omega), fun z ez y ey => ?_⟩
    rw [nI_clamp (by omega)] at ez
    rw [nI_1] at ey
    rw [ez, ey]
    exact h1 hno (by omega)
theorem si_yr2 {c n : Nat} {b : Nat → Int32} {key : Int32} {post : Int32 → SY → Prop} (hn : n ≤ 16) (h4 : (∀ i, i < n → b i ≠ key) → post 4 (nI c, nI n, b)) (h1 : ∀ q m, n = m + 1 → q ≤ m → b q = key → post 1 (nI c, nI m, upd b q (b m))) : ∀ d s : Nat, s + d = n → (∀ i, i < s → b i ≠ key) → wY_remove_2 post key (nI c) (nI n) b (d + 1) (nI s) := by
  intro d
  induction d with
  | zero =>
    intro s hs hlo
    have e : s = n := by omega
    subst e
    exact br_t (nI_le (by omega) (by omega)) (h4 hlo)
  | succ d ih =>
    intro s hs hlo
    refine br_f (nI_ge (by omega) (by omega)) ⟨vp_in_nI (by omega) (by omega), ?_⟩
    rw [nI_clamp (by omega)]
    refine br_c (fun e => ?_) (fun e y ey => ?_)
    · obtain ⟨m, rfl⟩ : ∃ m, n = m + 1 := ⟨n - 1, by omega⟩
      rw [nI_pred]
      refine ⟨vp_in_nI (by omega) (by omega), vp_in_nI (by omega) (by omega), fun z ez y ey => ?_⟩
      rw [nI_clamp (by omega)] at ez
      rw [ez, ey]
      exact h1 s m rfl (by omega) e
    · rw [ey, nI_1]
      exact ih (s + 1) (by omega) (lt_s hlo e)
theorem si_yremove {c n : Nat} {b : Nat → Int32} {key : Int32} {post : Int32 → SY → Prop} (hn : n ≤ 16) (h4 : (∀ i, i < n → b i ≠ key) → post 4 (nI c, nI n, b)) (h1 : ∀ q m, n = m + 1 → q ≤ m → b q = key → post 1 (nI c, nI m, upd b q (b m))) : wpY_remove post (nI c, nI n, b) key := by
  have h := si_yr2 (c := c) hn h4 h1 n 0 (by omega) (fun i hi => absurd hi (Nat.not_lt_zero i))
  rw [nI_0] at h
  exact ⟨n + 1, h⟩

/-! Y's at -/
theorem si_y29 {c n j ix : Nat} {b : Nat → Int32} {post J : Int32 → Prop} (hn : n ≤ 16) (hj : j < n) (hx : ix < 16)
    (h1 : si_cn (fun x => decide (x < b j)) b n = ix → post (b j))
    (h0 : ¬ si_cn (fun x => decide (x < b j)) b n = ix → J (nI (j + 1))) :
    ∀ d t : Nat, t + d = n → wY_at_29 post J (nI ix) (nI j) (nI c) (nI n) b (d + 1) (nI (si_cn (fun x => decide (x < b j)) b t)) (nI t) := by
  intro d
  induction d with
  | zero =>
    intro t ht
    have e : t = n := by omega
    subst e
    have hle := si_cn_le (fun x => decide (x < b j)) b t
    refine br_t (nI_le (by omega) (by omega)) ?_
    by_cases e : si_cn (fun x => decide (x < b j)) b t = ix
    · refine br_t (by rw [e]) ⟨vp_in_nI (by omega) (by omega), ?_⟩
      rw [nI_clamp (by omega)]
      exact h1 e
    · refine br_f (fun h => e ((nI_eq (by omega) (by omega)).mp h)) fun y ey => ?_
      rw [ey, nI_1]
      exact h0 e
  | succ d ih =>
    intro t ht
    refine br_f (nI_ge (by omega) (by omega)) ⟨vp_in_nI (by omega) (by omega), vp_in_nI (by omega) (by omega), ?_⟩
    have I := ih (t + 1) (by omega)
    rw [si_cn_s] at I
    rw [nI_clamp (by omega), nI_clamp (by omega)]
    refine br_c (fun e y ey => ?_) (fun e z ez y ey => ?_)
    · rw [ey, nI_1]
      rw [decide_eq_false (Int32.not_lt.mpr e)] at I
      exact I
    · rw [ez, ey, nI_1, nI_1]
      rw [decide_eq_true (Int32.not_le.mp e)] at I
      exact I
theorem si_y16 {c n ix : Nat} {b : Nat → Int32} {post : Int32 → Prop} (hn : n ≤ 16) (hx : ix < 16)
    (h1 : ∀ j, j < n → si_cn (fun x => decide (x < b j)) b n = ix → post (b j)) :
    ∀ d j : Nat, j + d = n → (∃ t, j ≤ t ∧ t < n ∧ si_cn (fun x => decide (x < b t)) b n = ix) → wY_at_16 post (nI ix) (nI c) (nI n) b (d + 1) (nI j) := by
  intro d
  induction d with
  | zero =>
    intro j hj h
    obtain ⟨t, z1, z2, _⟩ := h
    omega
  | succ d ih =>
    intro j hj h
    refine br_f (nI_ge (by omega) (by omega)) ⟨n + 1, ?_⟩
    have K := si_y29 (c := c) (post := post) (J := wY_at_16 post (nI ix) (nI c) (nI n) b (d + 1)) hn (j := j) (by omega) hx (h1 j (by omega)) (fun e => ih (j + 1) (by omega) (by
      obtain ⟨t, z1, z2, z3⟩ := h
      refine ⟨t, ?_, z2, z3⟩
      by_cases q : j = t
      · subst q
        exact absurd z3 e
      · omega)) n 0 (by omega)
    rw [show si_cn (fun x => decide (x < b j)) b 0 = 0 from rfl, nI_0] at K
    exact K
end
section
/-- what the two states share: n of at most c members; X's ascend; both arrays hold one multiset -/
def si_R (c n : Nat) (a b : Nat → Int32) : Prop := n ≤ c ∧ c ≤ 16 ∧ si_srt a n ∧ ∀ p, si_cn p a n = si_cn p b n
/-- the relation at the head of a turn whose first cell is k: (u : SX) is (f_cap, f_count, a_items), (v : SY) is (f_cap, f_count, a_bag) -/
def i_Rel (_k : Nat) (u : SX) (v : SY) : Prop := ∃ (c n : Nat) (a b : Nat → Int32), u = (nI c, nI n, a) ∧ v = (nI c, nI n, b) ∧ si_R c n a b
theorem i_up {k : Nat} {u : SX} {v : SY} (h : i_Rel k u v) : i_Rel (k + 2) u v := h
theorem si_new (k c : Nat) (h : c ≤ 16) {x : Int32} (hx : x = nI c) : i_Rel k (x, 0, fun _ => 0) (x, 0, fun _ => 0) :=
  ⟨c, 0, fun _ => 0, fun _ => 0, by rw [hx, nI_0], by rw [hx, nI_0], Nat.zero_le _, h, fun _ _ _ hj => absurd hj (Nat.not_lt_zero _), fun _ => rfl⟩
theorem i_vc0 (k0 : Int32) : wpX_init (fun u => wpY_init (fun v => i_Rel 1 u v) k0) k0 := by
  by_cases h0 : 0 ≤ k0
  · by_cases h16 : k0 ≤ 16
    · obtain ⟨j, hj, e⟩ := nI_of2 (x := k0) (M := 16) (n := 16) (by decide) (Int32.not_lt.mpr h0) h16
      exact br_t h0 (br_t h16 (br_t h0 (br_t h16 (si_new 1 j hj e))))
    · exact br_t h0 (br_f h16 (br_t h0 (br_f h16 (si_new 1 16 (by decide) (by decide +kernel)))))
  · exact br_f h0 (br_t (by decide) (br_f h0 (si_new 1 0 (by decide) (by decide +kernel))))
theorem i_vc_add {k : Nat} {u : SX} {v : SY} (I : i_Rel k u v) (hk : k + 2 ≤ 1025) (v1 : Int32) : wpX_add (fun r u' => wpY_add (fun r' v' => r' = r ∧ i_Rel (k + 2) u' v') v v1) u v1 := by
  have I' : i_Rel (k + 2) u v := i_up I
  obtain ⟨c, n, a, b, rfl, rfl, hc, h16, hs, hp⟩ := I
  have no : (∀ i, i < n → a i ≠ v1) → ¬ ∃ i, i < n ∧ b i = v1 := by
    intro h hb
    obtain ⟨i, hi, e⟩ := si_mem (fun p => (hp p).symm) hb
    exact h i hi e
  refine si_xadd hc h16 hs (fun hm => ?_) (fun hno hf => ?_) (fun hno hf q hq hlo hhi => ?_)
  · refine si_yadd hc h16 (fun _ => ⟨rfl, I'⟩) (fun hb _ => ?_) (fun hb _ => ?_)
    · obtain ⟨i, hi, e⟩ := si_mem hp hm
      exact absurd e (hb i hi)
    · obtain ⟨i, hi, e⟩ := si_mem hp hm
      exact absurd e (hb i hi)
  · exact si_yadd hc h16 (fun hb => absurd hb (no hno)) (fun _ _ => ⟨rfl, I'⟩) (fun _ h => absurd h (by omega))
  · refine si_yadd hc h16 (fun hb => absurd hb (no hno)) (fun _ h => absurd h (by omega)) (fun _ _ => ⟨rfl, ?_⟩)
    refine ⟨c, n + 1, si_ins a q v1 n, upd b n v1, rfl, rfl, by omega, h16, si_srt_ins hs hq hlo hhi, fun p => ?_⟩
    rw [si_cn_insert (a := a) (q := q) (x := v1) (fun i hi => si_ins_lo hi) si_ins_at n hq (fun i hi hi' => si_ins_hi hi hi'), si_cn_s, si_cn_out (Nat.le_refl _), si_us, hp]
theorem i_vc_remove {k : Nat} {u : SX} {v : SY} (I : i_Rel k u v) (hk : k + 2 ≤ 1025) (v1 : Int32) : wpX_remove (fun r u' => wpY_remove (fun r' v' => r' = r ∧ i_Rel (k + 2) u' v') v v1) u v1 := by
  have I' : i_Rel (k + 2) u v := i_up I
  obtain ⟨c, n, a, b, rfl, rfl, hc, h16, hs, hp⟩ := I
  refine si_xremove (by omega) hs (fun hno => ?_) (fun q m hm hq e => ?_)
  · refine si_yremove (by omega) (fun _ => ⟨rfl, I'⟩) (fun t m hm ht e => ?_)
    obtain ⟨i, hi, e'⟩ := si_mem (fun p => (hp p).symm) ⟨t, by omega, e⟩
    exact absurd e' (hno i hi)
  · subst hm
    refine si_yremove (by omega) (fun hb => ?_) (fun t m' hm' ht et => ⟨rfl, ?_⟩)
    · obtain ⟨i, hi, e'⟩ := si_mem hp ⟨q, by omega, e⟩
      exact absurd e' (hb i hi)
    · have em : m' = m := by omega
      subst em
      refine ⟨c, m', upd (si_del a q m') m' 0, upd b t (b m'), rfl, rfl, by omega, h16, si_srt_del hs, fun p => ?_⟩
      have z1 := si_cn_delete (p := p) (a := a) (a' := si_del a q m') (q := q) (fun i hi => si_del_lo hi) m' hq (fun i hi hi' => si_del_hi hi hi')
      have z2 := si_cn_in (p := p) (a := b) (k := t) (x := b m') (m' + 1) (by omega)
      have z3 := hp p
      have z4 : (upd b t (b m')) m' = b m' := by
        by_cases h : m' = t
        · rw [← h, si_us]
        · exact si_un h
      rw [si_cn_out (Nat.le_refl _)]
      rw [si_cn_s, z4] at z2
      rw [e] at z1
      rw [et] at z2
      omega
theorem i_vc_contains {k : Nat} {u : SX} {v : SY} (I : i_Rel k u v) (hk : k + 2 ≤ 1025) (v1 : Int32) : wpX_contains (fun r => wpY_contains (fun r' => r' = r ∧ i_Rel (k + 2) u v) v v1) u v1 := by
  have I' : i_Rel (k + 2) u v := i_up I
  obtain ⟨c, n, a, b, rfl, rfl, hc, h16, hs, hp⟩ := I
  refine si_xcontains (by omega) (fun hno => ?_) (fun hm => ?_)
  · refine si_ycontains (by omega) (fun _ => ⟨rfl, I'⟩) (fun hb => ?_)
    obtain ⟨i, hi, e⟩ := si_mem (fun p => (hp p).symm) hb
    exact absurd e (hno i hi)
  · refine si_ycontains (by omega) (fun hb => ?_) (fun _ => ⟨rfl, I'⟩)
    obtain ⟨i, hi, e⟩ := si_mem hp hm
    exact absurd e (hb i hi)
theorem i_vc_size {k : Nat} {u : SX} {v : SY} (I : i_Rel k u v) (hk : k + 2 ≤ 1025) : wpX_size (fun r => wpY_size (fun r' => r' = r ∧ i_Rel (k + 2) u v) v) u := by
  have I' : i_Rel (k + 2) u v := i_up I
  obtain ⟨c, n, a, b, rfl, rfl, hR⟩ := I
  exact ⟨rfl, I'⟩
theorem i_vc_at {k : Nat} {u : SX} {v : SY} (I : i_Rel k u v) (hk : k + 2 ≤ 1025) (v1 : Int32) : wpX_at (fun r => wpY_at (fun r' => r' = r ∧ i_Rel (k + 2) u v) v v1) u v1 := by
  have I' : i_Rel (k + 2) u v := i_up I
  obtain ⟨c, n, a, b, rfl, rfl, hc, h16, hs, hp⟩ := I
  by_cases h0 : v1 < 0
  · exact br_t h0 (br_t h0 ⟨rfl, I'⟩)
  · by_cases hn : v1 < nI n
    · obtain ⟨j, hj, rfl⟩ := nI_of h0
      have hjn : j < n := (nI_ltI hj (by omega)).mp hn
      refine br_f h0 (br_t hn ⟨vp_in_nI (by omega) (by omega), br_f h0 (br_t hn ⟨n + 1, ?_⟩)⟩)
      have K := si_y16 (c := c) (b := b) (ix := j) (post := fun r' => r' = a (nI j).toNatClampNeg ∧ i_Rel (k + 2) (nI c, nI n, a) (nI c, nI n, b)) (n := n) (by omega) (by omega) (fun t ht h => ⟨by rw [nI_clamp (by omega)]; exact si_rank_b hs hp ht h, I'⟩) n 0 (by omega) (by
        obtain ⟨t, ht, h⟩ := si_rank_ex hs hp hjn
        exact ⟨t, Nat.zero_le _, ht, h⟩)
      rw [nI_0] at K
      exact K
    · exact br_f h0 (br_f hn (br_f h0 (br_f hn ⟨rfl, I'⟩)))
end
