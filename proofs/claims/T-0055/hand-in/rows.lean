section
theorem pk_us {f : Nat → Int32} {k : Nat} {x : Int32} : upd f k x k = x := if_pos rfl
theorem pk_un {f : Nat → Int32} {k j : Nat} {x : Int32} (h : j ≠ k) : upd f k x j = f j := if_neg h
theorem pk_m1 (n : Nat) : nI (n + 1) + (-1) = nI n := by
  rw [← nI_1, Int32.add_assoc, show (1 : Int32) + (-1) = 0 from rfl, Int32.add_zero]
theorem pk_lt {x y : Int32} {A B : Prop} (a b : Nat) (f : a < b → A) (g : b ≤ a → B) (hx : x = nI a := by rfl) (hy : y = nI b := by rfl) (ha : a < 2 ^ 31 := by omega) (hb : b < 2 ^ 31 := by omega) : (x < y → A) ∧ (¬ x < y → B) := by
  subst hx hy
  rw [nI_ltI ha hb]
  exact ⟨f, fun z => g (by omega)⟩
theorem pk_eq {x y : Int32} {A B : Prop} (a b : Nat) (f : a = b → A) (g : a ≠ b → B) (hx : x = nI a := by rfl) (hy : y = nI b := by rfl) (ha : a < 2 ^ 31 := by omega) (hb : b < 2 ^ 31 := by omega) : (x = y → A) ∧ (¬ x = y → B) := by
  subst hx hy
  rw [nI_eq ha hb]
  exact ⟨f, g⟩
end
section
/-- how many of the first n pairs (a j, b j) satisfy p -/
def om_cnt (p : Int32 → Int32 → Bool) (a b : Nat → Int32) : Nat → Nat
  | 0 => 0
  | n + 1 => om_cnt p a b n + (p (a n) (b n)).toNat
/-- the keys rise strictly -/
def om_Srt (a : Nat → Int32) (n : Nat) : Prop := ∀ i j : Nat, i < j → j < n → a i < a j
/-- k is at most x -/
def om_le (x : Int32) : Int32 → Int32 → Bool := fun k _ => !decide (x < k)
/-- k is below x -/
def om_lt (x : Int32) : Int32 → Int32 → Bool := fun k _ => !decide (x ≤ k)
theorem om_congr (p : Int32 → Int32 → Bool) {a b a' b' : Nat → Int32} : ∀ n : Nat, (∀ j, j < n → a' j = a j ∧ b' j = b j) → om_cnt p a' b' n = om_cnt p a b n := by
  intro n
  induction n with
  | zero => intro _; rfl
  | succ n ih =>
    intro h
    have h1 := ih (fun j hj => h j (by omega))
    have ⟨e1, e2⟩ := h n (by omega)
    show om_cnt p a' b' n + (p (a' n) (b' n)).toNat = om_cnt p a b n + (p (a n) (b n)).toNat
    rw [h1, e1, e2]
theorem om_pos (p : Int32 → Int32 → Bool) {a b : Nat → Int32} : ∀ n : Nat, 0 < om_cnt p a b n ↔ ∃ i, i < n ∧ p (a i) (b i) = true := by
  intro n
  induction n with
  | zero =>
    constructor
    · intro h; exact absurd h (Nat.lt_irrefl 0)
    · rintro ⟨i, hi, _⟩; exact absurd hi (Nat.not_lt_zero i)
  | succ n ih =>
    show 0 < om_cnt p a b n + (p (a n) (b n)).toNat ↔ _
    constructor
    · intro h
      by_cases hp : p (a n) (b n) = true
      · exact ⟨n, Nat.lt_succ_self n, hp⟩
      · have hp' : p (a n) (b n) = false := eq_false_of_ne_true hp
        rw [hp'] at h
        obtain ⟨i, hi, e⟩ := ih.mp h
        exact ⟨i, by omega, e⟩
    · rintro ⟨i, hi, e⟩
      by_cases hin : i = n
      · subst hin; rw [e]; exact Nat.succ_pos _
      · exact Nat.lt_of_lt_of_le (ih.mpr ⟨i, by omega, e⟩) (Nat.le_add_right _ _)
theorem om_bnd (p : Int32 → Int32 → Bool) {a b : Nat → Int32} : ∀ n : Nat, om_cnt p a b n ≤ n := by
  intro n
  induction n with
  | zero => exact Nat.le_refl 0
  | succ n ih =>
    show om_cnt p a b n + (p (a n) (b n)).toNat ≤ n + 1
    have h : (p (a n) (b n)).toNat ≤ 1 := Bool.toNat_le _
    omega
/-- a pair put in at place q -/
theorem om_ins (p : Int32 → Int32 → Bool) {a b a' b' : Nat → Int32} {q : Nat} {x y : Int32} (hlo : ∀ j, j < q → a' j = a j ∧ b' j = b j) (hx : a' q = x) (hy : b' q = y) : ∀ d : Nat, (∀ j, q ≤ j → j < q + d → a' (j + 1) = a j ∧ b' (j + 1) = b j) → om_cnt p a' b' (q + d + 1) = om_cnt p a b (q + d) + (p x y).toNat := by
  intro d
  induction d with
  | zero =>
    intro _
    show om_cnt p a' b' q + (p (a' q) (b' q)).toNat = om_cnt p a b q + (p x y).toNat
    rw [om_congr p q hlo, hx, hy]
  | succ d ih =>
    intro h
    have h1 := ih (fun j h1 h2 => h j h1 (by omega))
    have ⟨e1, e2⟩ := h (q + d) (by omega) (by omega)
    show om_cnt p a' b' (q + d + 1) + (p (a' (q + d + 1)) (b' (q + d + 1))).toNat = om_cnt p a b (q + d) + (p (a (q + d)) (b (q + d))).toNat + (p x y).toNat
    rw [h1, e1, e2]
    omega
/-- the pair at place i changed -/
theorem om_set (p : Int32 → Int32 → Bool) {a b a' b' : Nat → Int32} {i : Nat} : ∀ n : Nat, i < n → (∀ j, j < n → j ≠ i → a' j = a j ∧ b' j = b j) → om_cnt p a' b' n + (p (a i) (b i)).toNat = om_cnt p a b n + (p (a' i) (b' i)).toNat := by
  intro n
  induction n with
  | zero => intro h; exact absurd h (Nat.not_lt_zero i)
  | succ n ih =>
    intro hi h
    show om_cnt p a' b' n + (p (a' n) (b' n)).toNat + (p (a i) (b i)).toNat = om_cnt p a b n + (p (a n) (b n)).toNat + (p (a' i) (b' i)).toNat
    by_cases e : i = n
    · subst e
      rw [om_congr p i (fun j hj => h j (by omega) (by omega))]
      omega
    · have h1 := ih (by omega) (fun j hj hn => h j (by omega) hn)
      have ⟨e1, e2⟩ := h n (by omega) (by omega)
      rw [e1, e2]
      omega
/-- the last pair moved over the pair at place i -/
theorem om_swap (p : Int32 → Int32 → Bool) {a b a' b' : Nat → Int32} {i m : Nat} (hi : i ≤ m) (hx : a' i = a m) (hy : b' i = b m) (h : ∀ j, j < m → j ≠ i → a' j = a j ∧ b' j = b j) : om_cnt p a' b' m + (p (a i) (b i)).toNat = om_cnt p a b (m + 1) := by
  show om_cnt p a' b' m + (p (a i) (b i)).toNat = om_cnt p a b m + (p (a m) (b m)).toNat
  by_cases e : i = m
  · subst e
    rw [om_congr p i (fun j hj => h j hj (by omega))]
  · rw [om_set p m (by omega) h, hx, hy]
theorem om_mem {a b ks vs : Nat → Int32} {n : Nat} (H : ∀ p : Int32 → Int32 → Bool, om_cnt p a b n = om_cnt p ks vs n) {j : Nat} (hj : j < n) : ∃ i, i < n ∧ a i = ks j ∧ b i = vs j := by
  have h0 : 0 < om_cnt (fun k v => decide (k = ks j ∧ v = vs j)) a b n := by
    rw [H, om_pos]
    exact ⟨j, hj, decide_eq_true ⟨rfl, rfl⟩⟩
  rw [om_pos] at h0
  obtain ⟨i, hi, e⟩ := h0
  exact ⟨i, hi, of_decide_eq_true e⟩
theorem om_inj {a : Nat → Int32} {n i j : Nat} (h : om_Srt a n) (hi : i < n) (hj : j < n) (e : a i = a j) : i = j := by
  by_cases c : i < j
  · exact absurd e (Int32.ne_of_lt (h i j c hj))
  · by_cases c2 : j < i
    · exact absurd e.symm (Int32.ne_of_lt (h j i c2 hi))
    · omega
/-- the key at place m has m smaller ones -/
theorem om_rank {a b : Nat → Int32} {n m : Nat} (h : om_Srt a n) (hm : m < n) : ∀ i : Nat, i ≤ n → om_cnt (om_lt (a m)) a b i = if i ≤ m then i else m := by
  intro i
  induction i with
  | zero => intro _; rw [if_pos (Nat.zero_le m)]; rfl
  | succ i ih =>
    intro hi
    have h1 := ih (by omega)
    show om_cnt (om_lt (a m)) a b i + (!decide (a m ≤ a i)).toNat = _
    rw [h1]
    by_cases c : i < m
    · have hl : ¬ a m ≤ a i := Int32.not_le.mpr (h i m c hm)
      rw [decide_eq_false hl, if_pos (by omega), if_pos (by omega)]
      rfl
    · have hl : a m ≤ a i := by
        by_cases e : i = m
        · subst e; exact Int32.le_refl _
        · exact Int32.le_of_lt (h m i (by omega) (by omega))
      rw [decide_eq_true hl, if_neg (by omega : ¬ i + 1 ≤ m)]
      show (if i ≤ m then i else m) = m
      split
      · omega
      · rfl
/-- a' is a with x put in at place q, over n entries -/
def om_Ins (a a' : Nat → Int32) (q n : Nat) (x : Int32) : Prop := (∀ j, j < q → a' j = a j) ∧ a' q = x ∧ ∀ j, q ≤ j → j < n → a' (j + 1) = a j
/-- a' is a with the entry at place q taken out, m entries left -/
def om_Del (a a' : Nat → Int32) (q m : Nat) : Prop := (∀ j, j < q → a' j = a j) ∧ ∀ j, q ≤ j → j < m → a' j = a (j + 1)
theorem om_insC (p : Int32 → Int32 → Bool) {a b a' b' : Nat → Int32} {q n : Nat} {x y : Int32} (hq : q ≤ n) (ha : om_Ins a a' q n x) (hb : om_Ins b b' q n y) : om_cnt p a' b' (n + 1) = om_cnt p a b n + (p x y).toNat := by
  obtain ⟨d, rfl⟩ : ∃ d, n = q + d := ⟨n - q, by omega⟩
  exact om_ins p (fun j hj => ⟨ha.1 j hj, hb.1 j hj⟩) ha.2.1 hb.2.1 d (fun j h1 h2 => ⟨ha.2.2 j h1 h2, hb.2.2 j h1 h2⟩)
theorem om_delC (p : Int32 → Int32 → Bool) {a b a' b' : Nat → Int32} {q m : Nat} (hq : q ≤ m) (ha : om_Del a a' q m) (hb : om_Del b b' q m) : om_cnt p a b (m + 1) = om_cnt p a' b' m + (p (a q) (b q)).toNat :=
  om_insC p hq ⟨fun j hj => (ha.1 j hj).symm, rfl, fun j h1 h2 => (ha.2 j h1 h2).symm⟩ ⟨fun j hj => (hb.1 j hj).symm, rfl, fun j h1 h2 => (hb.2 j h1 h2).symm⟩
theorem om_insS {a a' : Nat → Int32} {q n : Nat} {x : Int32} (hq : q ≤ n) (hs : om_Srt a n) (hlo : ∀ i, i < q → a i < x) (hhi : ∀ i, q ≤ i → i < n → x < a i) (h : om_Ins a a' q n x) : om_Srt a' (n + 1) := by
  intro i j hij hj
  by_cases c1 : j < q
  · rw [h.1 i (by omega), h.1 j c1]
    exact hs i j hij (by omega)
  · by_cases c2 : j = q
    · subst c2
      rw [h.1 i hij, h.2.1]
      exact hlo i hij
    · obtain ⟨j', rfl⟩ : ∃ j', j = j' + 1 := ⟨j - 1, by omega⟩
      rw [h.2.2 j' (by omega) (by omega)]
      by_cases c3 : i < q
      · rw [h.1 i c3]
        exact hs i j' (by omega) (by omega)
      · by_cases c4 : i = q
        · subst c4
          rw [h.2.1]
          exact hhi j' (by omega) (by omega)
        · obtain ⟨i', rfl⟩ : ∃ i', i = i' + 1 := ⟨i - 1, by omega⟩
          rw [h.2.2 i' (by omega) (by omega)]
          exact hs i' j' (by omega) (by omega)
theorem om_delS {a a' : Nat → Int32} {q m : Nat} (hs : om_Srt a (m + 1)) (h : om_Del a a' q m) : om_Srt a' m := by
  intro i j hij hj
  by_cases c1 : j < q
  · rw [h.1 i (by omega), h.1 j c1]
    exact hs i j hij (by omega)
  · rw [h.2 j (by omega) hj]
    by_cases c3 : i < q
    · rw [h.1 i c3]
      exact hs i (j + 1) (by omega) (by omega)
    · rw [h.2 i (by omega) (by omega)]
      exact hs (i + 1) (j + 1) (by omega) (by omega)
end
section
theorem om_uc {f : Nat → Int32} {q : Nat} {x : Int32} (hq : q < 2 ^ 31) : upd f (nI q).toNatClampNeg x = upd f q x := by rw [nI_clamp hq]
/-- X's search for the place of a key, in put -/
theorem om_xput2 (x1 x2 fc : Int32) {n : Nat} (hn : n ≤ 12) (a b : Nat → Int32) : ∀ d q : Nat, q + d = n → (∀ i, i < q → a i < x1) → ∃ q', q' ≤ n ∧ (∀ i, i < q' → a i < x1) ∧ (q' < n → x1 ≤ a q') ∧ ∀ post : Int32 → SX → Prop, wX_put_26 post x1 x2 (nI q') fc (nI n) a b → wX_put_2 post x1 x2 fc (nI n) a b (d + 1) (nI q) := by
  intro d
  induction d with
  | zero =>
    intro q hq hlo
    exact ⟨q, by omega, hlo, fun h => absurd h (by omega), fun post hp => br_t (nI_le (by omega) (by omega)) hp⟩
  | succ d ih =>
    intro q hq hlo
    have h : ¬ nI n ≤ nI q := nI_ge (by omega) (by omega)
    have hi : vp_in (nI q) 12 := vp_in_nI (by omega) (by omega)
    have hc : (nI q).toNatClampNeg = q := nI_clamp (by omega)
    by_cases z : x1 ≤ a q
    · have z' : x1 ≤ a (nI q).toNatClampNeg := by rw [hc]; exact z
      exact ⟨q, by omega, hlo, fun _ => z, fun post hp => br_f h ⟨hi, br_t z' hp⟩⟩
    · have z' : ¬ x1 ≤ a (nI q).toNatClampNeg := by rw [hc]; exact z
      obtain ⟨q', h1, h2, h3, h4⟩ := ih (q + 1) (by omega) (lt_s hlo (Int32.not_le.mp z))
      exact ⟨q', h1, h2, h3, fun post hp => br_f h ⟨hi, br_f z' (nm_r (nI_1 q) (h4 post hp))⟩⟩
/-- X's search for the place of a key, in remove -/
theorem om_xrem2 (x1 fc : Int32) {n : Nat} (hn : n ≤ 12) (a b : Nat → Int32) : ∀ d q : Nat, q + d = n → (∀ i, i < q → a i < x1) → ∃ q', q' ≤ n ∧ (∀ i, i < q' → a i < x1) ∧ (q' < n → x1 ≤ a q') ∧ ∀ post : Int32 → SX → Prop, wX_remove_26 post x1 (nI q') fc (nI n) a b → wX_remove_2 post x1 fc (nI n) a b (d + 1) (nI q) := by
  intro d
  induction d with
  | zero =>
    intro q hq hlo
    exact ⟨q, by omega, hlo, fun h => absurd h (by omega), fun post hp => br_t (nI_le (by omega) (by omega)) hp⟩
  | succ d ih =>
    intro q hq hlo
    have h : ¬ nI n ≤ nI q := nI_ge (by omega) (by omega)
    have hi : vp_in (nI q) 12 := vp_in_nI (by omega) (by omega)
    have hc : (nI q).toNatClampNeg = q := nI_clamp (by omega)
    by_cases z : x1 ≤ a q
    · have z' : x1 ≤ a (nI q).toNatClampNeg := by rw [hc]; exact z
      exact ⟨q, by omega, hlo, fun _ => z, fun post hp => br_f h ⟨hi, br_t z' hp⟩⟩
    · have z' : ¬ x1 ≤ a (nI q).toNatClampNeg := by rw [hc]; exact z
      obtain ⟨q', h1, h2, h3, h4⟩ := ih (q + 1) (by omega) (lt_s hlo (Int32.not_le.mp z))
      exact ⟨q', h1, h2, h3, fun post hp => br_f h ⟨hi, br_f z' (nm_r (nI_1 q) (h4 post hp))⟩⟩
/-- entries from i on moved up by one -/
def om_Sh (a a1 : Nat → Int32) (i n : Nat) : Prop := (∀ j, j ≤ i → a1 j = a j) ∧ ∀ j, i ≤ j → j < n → a1 (j + 1) = a j
theorem om_sh_s {a a1 : Nat → Int32} {i n : Nat} (h : om_Sh a a1 (i + 1) n) : om_Sh a (upd a1 (i + 1) (a1 i)) i n := by
  refine ⟨fun j hj => (pk_un (by omega)).trans (h.1 j (by omega)), fun j hj hn => ?_⟩
  by_cases e : j = i
  · subst e
    exact pk_us.trans (h.1 j (by omega))
  · exact (pk_un (by omega)).trans (h.2 j (by omega) hn)
theorem om_sh_e {a a1 : Nat → Int32} {q n : Nat} {x : Int32} (h : om_Sh a a1 q n) : om_Ins a (upd a1 q x) q n x :=
  ⟨fun j hj => (pk_un (by omega)).trans (h.1 j (by omega)), pk_us, fun j hj hn => (pk_un (by omega)).trans (h.2 j hj hn)⟩
/-- X's insertion: the loop from n down to q -/
theorem om_xput72 {post : Int32 → SX → Prop} {x1 x2 fc : Int32} {q n : Nat} {a b : Nat → Int32} (hn : n < 12) (K : ∀ a' b' : Nat → Int32, om_Ins a a' q n x1 → om_Ins b b' q n x2 → post 1 (fc, nI (n + 1), a', b')) : ∀ d : Nat, q + d ≤ n → ∀ a1 b1 : Nat → Int32, om_Sh a a1 (q + d) n → om_Sh b b1 (q + d) n → wX_put_72 post x1 x2 (nI q) fc (nI n) (d + 1) (nI (q + d)) a1 b1 := by
  intro d
  induction d with
  | zero =>
    intro hd a1 b1 ha hb
    have hi : vp_in (nI q) 12 := vp_in_nI (by omega) (by omega)
    have hq : q < 2 ^ 31 := by omega
    have hle : nI q ≤ nI q := Int32.le_refl _
    exact br_t hle ⟨hi, nm_r (om_uc hq) ⟨hi, nm_r (om_uc hq) (nm_r (nI_1 n) (K _ _ (om_sh_e ha) (om_sh_e hb)))⟩⟩
  | succ d ih =>
    intro hd a1 b1 ha hb
    have ha : om_Sh a a1 (q + d + 1) n := ha
    have hb : om_Sh b b1 (q + d + 1) n := hb
    show wX_put_72 post x1 x2 (nI q) fc (nI n) (d + 1 + 1) (nI (q + d + 1)) a1 b1
    have hp : nI (q + d + 1) - 1 = nI (q + d) := nI_pred _
    have h : ¬ nI (q + d + 1) ≤ nI q := nI_ge (by omega) (by omega)
    have hi : vp_in (nI (q + d + 1)) 12 := vp_in_nI (by omega) (by omega)
    have hi' : vp_in (nI (q + d + 1) - 1) 12 := by rw [hp]; exact vp_in_nI (by omega) (by omega)
    have c1 : (nI (q + d + 1)).toNatClampNeg = q + d + 1 := nI_clamp (by omega)
    have c0 : (nI (q + d)).toNatClampNeg = q + d := nI_clamp (by omega)
    have e1 : ∀ f : Nat → Int32, upd f (nI (q + d + 1)).toNatClampNeg (f (nI (q + d + 1) - 1).toNatClampNeg) = upd f (q + d + 1) (f (q + d)) := by
      intro f
      rw [hp, c1, c0]
    exact br_f h ⟨hi', hi, nm_r (e1 a1) ⟨hi', hi, nm_r (e1 b1) (nm_r (pk_m1 (q + d)) (ih (by omega) _ _ (om_sh_s ha) (om_sh_s hb)))⟩⟩
/-- entries of q .. i-1 moved down by one -/
def om_Dl (a a1 : Nat → Int32) (q i m : Nat) : Prop := (∀ j, j < q → a1 j = a j) ∧ (∀ j, q ≤ j → j < i → a1 j = a (j + 1)) ∧ ∀ j, i ≤ j → j ≤ m → a1 j = a j
theorem om_dl_s {a a1 : Nat → Int32} {q i m : Nat} (hq : q ≤ i) (hi : i < m) (h : om_Dl a a1 q i m) : om_Dl a (upd a1 i (a1 (i + 1))) q (i + 1) m := by
  refine ⟨fun j hj => (pk_un (by omega)).trans (h.1 j hj), fun j hj hn => ?_, fun j hj hn => (pk_un (by omega)).trans (h.2.2 j (by omega) hn)⟩
  by_cases e : j = i
  · subst e
    exact pk_us.trans (h.2.2 (j + 1) (by omega) (by omega))
  · exact (pk_un e).trans (h.2.1 j hj (by omega))
theorem om_dl_e {a a1 : Nat → Int32} {q m : Nat} {x : Int32} (hq : q ≤ m) (h : om_Dl a a1 q m m) : om_Del a (upd a1 m x) q m :=
  ⟨fun j hj => (pk_un (by omega)).trans (h.1 j hj), fun j hj hn => (pk_un (by omega)).trans (h.2.1 j hj hn)⟩
/-- X's removal: the loop from q up to m -/
theorem om_xrem48 {post : Int32 → SX → Prop} {fc : Int32} {q m : Nat} {a b : Nat → Int32} (hm : m < 12) (K : ∀ a' b' : Nat → Int32, om_Del a a' q m → om_Del b b' q m → post 4 (fc, nI m, a', b')) : ∀ d i : Nat, q ≤ i → i + d = m → ∀ a1 b1 : Nat → Int32, om_Dl a a1 q i m → om_Dl b b1 q i m → wX_remove_48 post fc (nI (m + 1)) (d + 1) (nI i) a1 b1 := by
  intro d
  induction d with
  | zero =>
    intro i hqi hi a1 b1 ha hb
    have e : i = m := by omega
    subst e
    have hin : vp_in (nI i) 12 := vp_in_nI (by omega) (by omega)
    have hc : i < 2 ^ 31 := by omega
    have hle : nI (i + 1) - 1 ≤ nI i := by rw [nI_pred]; exact Int32.le_refl _
    exact br_t hle (nm_r (nI_pred i) ⟨hin, nm_r (om_uc hc) ⟨hin, nm_r (om_uc hc) (K _ _ (om_dl_e hqi ha) (om_dl_e hqi hb))⟩⟩)
  | succ d ih =>
    intro i hqi hi a1 b1 ha hb
    have h : ¬ nI (m + 1) - 1 ≤ nI i := by rw [nI_pred]; exact nI_ge (by omega) (by omega)
    have h1 : nI i + 1 = nI (i + 1) := nI_1 i
    have hin : vp_in (nI i) 12 := vp_in_nI (by omega) (by omega)
    have hin' : vp_in (nI i + 1) 12 := by rw [h1]; exact vp_in_nI (by omega) (by omega)
    have c1 : (nI (i + 1)).toNatClampNeg = i + 1 := nI_clamp (by omega)
    have c0 : (nI i).toNatClampNeg = i := nI_clamp (by omega)
    have e1 : ∀ f : Nat → Int32, upd f (nI i).toNatClampNeg (f (nI i + 1).toNatClampNeg) = upd f i (f (i + 1)) := by
      intro f
      rw [h1, c1, c0]
    exact br_f h ⟨hin', hin, nm_r (e1 a1) ⟨hin', hin, nm_r (e1 b1) (nm_r h1 (ih (i + 1) (by omega) (by omega) _ _ (om_dl_s hqi (by omega) ha) (om_dl_s hqi (by omega) hb)))⟩⟩
/-- X's get -/
theorem om_xget2 (x1 fc : Int32) {n : Nat} (hn : n ≤ 12) (a b : Nat → Int32) : ∀ d q : Nat, q + d = n → (∀ i, i < q → a i ≠ x1) → (∃ j, j < n ∧ a j = x1 ∧ ∀ post : Int32 → Prop, post (b j) → wX_get_2 post x1 fc (nI n) a b (d + 1) (nI q)) ∨ ((∀ j, j < n → a j ≠ x1) ∧ ∀ post : Int32 → Prop, post 0 → wX_get_2 post x1 fc (nI n) a b (d + 1) (nI q)) := by
  intro d
  induction d with
  | zero =>
    intro q hq hlo
    have e : q = n := by omega
    subst e
    exact Or.inr ⟨hlo, fun post hp => br_t (Int32.le_refl _) hp⟩
  | succ d ih =>
    intro q hq hlo
    have h : ¬ nI n ≤ nI q := nI_ge (by omega) (by omega)
    have hi : vp_in (nI q) 12 := vp_in_nI (by omega) (by omega)
    have hc : (nI q).toNatClampNeg = q := nI_clamp (by omega)
    by_cases z : a q = x1
    · have z' : a (nI q).toNatClampNeg = x1 := by rw [hc]; exact z
      refine Or.inl ⟨q, by omega, z, fun post hp => ?_⟩
      have hp' : post (b (nI q).toNatClampNeg) := by rw [hc]; exact hp
      exact br_f h ⟨hi, br_t z' ⟨hi, hp'⟩⟩
    · have z' : ¬ a (nI q).toNatClampNeg = x1 := by rw [hc]; exact z
      rcases ih (q + 1) (by omega) (lt_s hlo z) with ⟨j, h1, h2, h3⟩ | ⟨h1, h2⟩
      · exact Or.inl ⟨j, h1, h2, fun post hp => br_f h ⟨hi, br_f z' (nm_r (nI_1 q) (h3 post hp))⟩⟩
      · exact Or.inr ⟨h1, fun post hp => br_f h ⟨hi, br_f z' (nm_r (nI_1 q) (h2 post hp))⟩⟩
/-- X's countUpTo -/
theorem om_xcnt4 {post : Int32 → Prop} {x1 fc : Int32} {n : Nat} (hn : n ≤ 12) {a b : Nat → Int32} (hp : post (nI (om_cnt (om_le x1) a b n))) : ∀ d q : Nat, q + d = n → wX_countUpTo_4 post x1 fc (nI n) a b (d + 1) (nI (om_cnt (om_le x1) a b q)) (nI q) := by
  intro d
  induction d with
  | zero =>
    intro q hq
    have e : q = n := by omega
    subst e
    exact br_t (Int32.le_refl _) hp
  | succ d ih =>
    intro q hq
    have h : ¬ nI n ≤ nI q := nI_ge (by omega) (by omega)
    have hi : vp_in (nI q) 12 := vp_in_nI (by omega) (by omega)
    have hc : (nI q).toNatClampNeg = q := nI_clamp (by omega)
    have h1 := ih (q + 1) (by omega)
    by_cases z : x1 < a q
    · have z' : x1 < a (nI q).toNatClampNeg := by rw [hc]; exact z
      have e : om_cnt (om_le x1) a b (q + 1) = om_cnt (om_le x1) a b q := by
        show om_cnt (om_le x1) a b q + (!decide (x1 < a q)).toNat = _
        rw [decide_eq_true z]
        rfl
      rw [e] at h1
      exact br_f h ⟨hi, br_t z' (nm_r (nI_1 q) h1)⟩
    · have z' : ¬ x1 < a (nI q).toNatClampNeg := by rw [hc]; exact z
      have e : om_cnt (om_le x1) a b (q + 1) = om_cnt (om_le x1) a b q + 1 := by
        show om_cnt (om_le x1) a b q + (!decide (x1 < a q)).toNat = _
        rw [decide_eq_false z]
        rfl
      rw [e] at h1
      exact br_f h ⟨hi, br_f z' (nm_r (nI_1 _) (nm_r (nI_1 q) h1))⟩
theorem om_0 : nI 0 = 0 := nI_0
/-- X's put, whole -/
theorem om_xput {post : Int32 → SX → Prop} {x1 x2 : Int32} {c n : Nat} {a b : Nat → Int32} (hnc : n ≤ c) (hc : c ≤ 12) (hs : om_Srt a n)
    (K2 : ∀ q, q < n → a q = x1 → post 2 (nI c, nI n, a, upd b q x2))
    (K3 : (∀ j, j < n → a j ≠ x1) → n = c → post 3 (nI c, nI n, a, b))
    (K1 : (∀ j, j < n → a j ≠ x1) → n < c → ∀ (q : Nat) (a' b' : Nat → Int32), q ≤ n → (∀ i, i < q → a i < x1) → (∀ i, q ≤ i → i < n → x1 < a i) → om_Ins a a' q n x1 → om_Ins b b' q n x2 → post 1 (nI c, nI (n + 1), a', b')) :
    wpX_put post (nI c, nI n, a, b) x1 x2 := by
  obtain ⟨q, hq, hlo, hhi, hX⟩ := om_xput2 x1 x2 (nI c) (n := n) (by omega) a b n 0 (by omega) (fun i hi => absurd hi (Nat.not_lt_zero i))
  rw [om_0] at hX
  refine Exists.intro (n + 1) (hX post ?_)
  have J : (∀ i, q ≤ i → i < n → x1 < a i) → wX_put_53 post x1 x2 (nI q) (nI c) (nI n) a b := by
    intro hg
    have hne : ∀ j, j < n → a j ≠ x1 := by
      intro j hj
      by_cases cj : j < q
      · exact Int32.ne_of_lt (hlo j cj)
      · exact fun e => Int32.ne_of_lt (hg j (by omega) hj) e.symm
    refine pk_lt n c (fun hl => ?_) (fun hl => K3 hne (by omega))
    refine Exists.intro (n - q + 1) ?_
    have L := om_xput72 (post := post) (x1 := x1) (x2 := x2) (fc := nI c) (q := q) (n := n) (a := a) (b := b) (by omega) (fun a' b' h1 h2 => K1 hne hl q a' b' hq hlo hg h1 h2) (n - q) (by omega) a b
    have e : q + (n - q) = n := by omega
    rw [e] at L
    exact L ⟨fun _ _ => rfl, fun j h1 h2 => absurd h2 (by omega)⟩ ⟨fun _ _ => rfl, fun j h1 h2 => absurd h2 (by omega)⟩
  by_cases hqn : q < n
  · have h : ¬ nI n ≤ nI q := nI_ge hqn (by omega)
    have hi : vp_in (nI q) 12 := vp_in_nI (by omega) (by omega)
    have hcl : (nI q).toNatClampNeg = q := nI_clamp (by omega)
    by_cases z : a q = x1
    · have z' : a (nI q).toNatClampNeg = x1 := by rw [hcl]; exact z
      exact br_f h ⟨hi, br_t z' ⟨hi, nm_r (om_uc (by omega)) (K2 q hqn z)⟩⟩
    · have z' : ¬ a (nI q).toNatClampNeg = x1 := by rw [hcl]; exact z
      have hlt : x1 < a q := Int32.lt_of_le_of_ne (hhi hqn) (fun e => z e.symm)
      refine br_f h ⟨hi, br_f z' (J ?_)⟩
      intro i h1 h2
      by_cases e : i = q
      · subst e; exact hlt
      · exact Int32.lt_trans hlt (hs q i (by omega) h2)
  · exact br_t (nI_le (by omega) (by omega)) (J (fun i h1 h2 => absurd h2 (by omega)))
/-- X's remove, whole -/
theorem om_xrem {post : Int32 → SX → Prop} {x1 : Int32} {c n : Nat} {a b : Nat → Int32} (hn : n ≤ 12) (hs : om_Srt a n)
    (K4 : ∀ (m q : Nat) (a' b' : Nat → Int32), n = m + 1 → q ≤ m → a q = x1 → om_Del a a' q m → om_Del b b' q m → post 4 (nI c, nI m, a', b'))
    (K5 : (∀ j, j < n → a j ≠ x1) → post 5 (nI c, nI n, a, b)) :
    wpX_remove post (nI c, nI n, a, b) x1 := by
  obtain ⟨q, hq, hlo, hhi, hX⟩ := om_xrem2 x1 (nI c) (n := n) hn a b n 0 (by omega) (fun i hi => absurd hi (Nat.not_lt_zero i))
  rw [om_0] at hX
  refine Exists.intro (n + 1) (hX post ?_)
  have J : (∀ i, q ≤ i → i < n → x1 < a i) → ∀ j, j < n → a j ≠ x1 := by
    intro hg j hj
    by_cases cj : j < q
    · exact Int32.ne_of_lt (hlo j cj)
    · exact fun e => Int32.ne_of_lt (hg j (by omega) hj) e.symm
  by_cases hqn : q < n
  · have h : ¬ nI n ≤ nI q := nI_ge hqn (by omega)
    have hi : vp_in (nI q) 12 := vp_in_nI (by omega) (by omega)
    have hcl : (nI q).toNatClampNeg = q := nI_clamp (by omega)
    by_cases z : a q = x1
    · have z' : a (nI q).toNatClampNeg = x1 := by rw [hcl]; exact z
      obtain ⟨m, rfl⟩ : ∃ m, n = m + 1 := ⟨n - 1, by omega⟩
      have L := om_xrem48 (post := post) (fc := nI c) (q := q) (m := m) (a := a) (b := b) (by omega) (fun a' b' h1 h2 => K4 m q a' b' rfl (by omega) z h1 h2) (m - q) q (Nat.le_refl q) (by omega) a b ⟨fun _ _ => rfl, fun j h1 h2 => absurd h2 (by omega), fun _ _ _ => rfl⟩ ⟨fun _ _ => rfl, fun j h1 h2 => absurd h2 (by omega), fun _ _ _ => rfl⟩
      exact br_f h ⟨hi, br_t z' ⟨m - q + 1, L⟩⟩
    · have z' : ¬ a (nI q).toNatClampNeg = x1 := by rw [hcl]; exact z
      have hlt : x1 < a q := Int32.lt_of_le_of_ne (hhi hqn) (fun e => z e.symm)
      refine br_f h ⟨hi, br_f z' (K5 (J ?_))⟩
      intro i h1 h2
      by_cases e : i = q
      · subst e; exact hlt
      · exact Int32.lt_trans hlt (hs q i (by omega) h2)
  · exact br_t (nI_le (by omega) (by omega)) (K5 (J (fun i h1 h2 => absurd h2 (by omega))))
/-- X's get, whole -/
theorem om_xget {post : Int32 → Prop} {x1 : Int32} {c n : Nat} {a b : Nat → Int32} (hn : n ≤ 12) (K : ∀ j, j < n → a j = x1 → post (b j)) (K0 : (∀ j, j < n → a j ≠ x1) → post 0) : wpX_get post (nI c, nI n, a, b) x1 := by
  rcases om_xget2 x1 (nI c) (n := n) hn a b n 0 (by omega) (fun i hi => absurd hi (Nat.not_lt_zero i)) with ⟨j, h1, h2, h3⟩ | ⟨h1, h2⟩
  · rw [om_0] at h3
    exact Exists.intro (n + 1) (h3 post (K j h1 h2))
  · rw [om_0] at h2
    exact Exists.intro (n + 1) (h2 post (K0 h1))
/-- X's countUpTo, whole -/
theorem om_xcnt {post : Int32 → Prop} {x1 : Int32} {c n : Nat} {a b : Nat → Int32} (hn : n ≤ 12) (hp : post (nI (om_cnt (om_le x1) a b n))) : wpX_countUpTo post (nI c, nI n, a, b) x1 :=
  Exists.intro (n + 1) (om_xcnt4 hn hp n 0 (Nat.zero_add n))
end
section
/-- Y's find -/
theorem om_yfind2 (x1 fc : Int32) {n : Nat} (hn : n ≤ 12) (ks vs : Nat → Int32) : ∀ d q : Nat, q + d = n → (∀ i, i < q → ks i ≠ x1) → (∃ j, j < n ∧ ks j = x1 ∧ ∀ post : Int32 → Prop, post (nI j) → wY_find_2 post x1 fc (nI n) ks vs (d + 1) (nI q)) ∨ ((∀ j, j < n → ks j ≠ x1) ∧ ∀ post : Int32 → Prop, post (-1) → wY_find_2 post x1 fc (nI n) ks vs (d + 1) (nI q)) := by
  intro d
  induction d with
  | zero =>
    intro q hq hlo
    have e : q = n := by omega
    subst e
    exact Or.inr ⟨hlo, fun post hp => br_t (Int32.le_refl _) hp⟩
  | succ d ih =>
    intro q hq hlo
    have h : ¬ nI n ≤ nI q := nI_ge (by omega) (by omega)
    have hi : vp_in (nI q) 12 := vp_in_nI (by omega) (by omega)
    have hc : (nI q).toNatClampNeg = q := nI_clamp (by omega)
    by_cases z : ks q = x1
    · have z' : ks (nI q).toNatClampNeg = x1 := by rw [hc]; exact z
      exact Or.inl ⟨q, by omega, z, fun post hp => br_f h ⟨hi, br_t z' hp⟩⟩
    · have z' : ¬ ks (nI q).toNatClampNeg = x1 := by rw [hc]; exact z
      rcases ih (q + 1) (by omega) (lt_s hlo z) with ⟨j, h1, h2, h3⟩ | ⟨h1, h2⟩
      · exact Or.inl ⟨j, h1, h2, fun post hp => br_f h ⟨hi, br_f z' (nm_r (nI_1 q) (h3 post hp))⟩⟩
      · exact Or.inr ⟨h1, fun post hp => br_f h ⟨hi, br_f z' (nm_r (nI_1 q) (h2 post hp))⟩⟩
theorem om_yfind {post : Int32 → Prop} {x1 : Int32} {c n : Nat} {ks vs : Nat → Int32} (hn : n ≤ 12) (K : ∀ j, j < n → ks j = x1 → post (nI j)) (K0 : (∀ j, j < n → ks j ≠ x1) → post (-1)) : wpY_find post (nI c, nI n, ks, vs) x1 := by
  rcases om_yfind2 x1 (nI c) (n := n) hn ks vs n 0 (by omega) (fun i hi => absurd hi (Nat.not_lt_zero i)) with ⟨j, h1, h2, h3⟩ | ⟨h1, h2⟩
  · rw [nI_0] at h3
    exact Exists.intro (n + 1) (h3 post (K j h1 h2))
  · rw [nI_0] at h2
    exact Exists.intro (n + 1) (h2 post (K0 h1))
theorem om_m1 : (-1 : Int32) < 0 := by decide
theorem om_m1' : ¬ (0 : Int32) ≤ -1 := by decide
/-- Y's put, whole -/
theorem om_yput {post : Int32 → SY → Prop} {x1 x2 : Int32} {c n : Nat} {ks vs : Nat → Int32} (hnc : n ≤ c) (hc : c ≤ 12)
    (K2 : ∀ j, j < n → ks j = x1 → post 2 (nI c, nI n, ks, upd vs j x2))
    (K3 : (∀ j, j < n → ks j ≠ x1) → n = c → post 3 (nI c, nI n, ks, vs))
    (K1 : (∀ j, j < n → ks j ≠ x1) → n < c → post 1 (nI c, nI (n + 1), upd ks n x1, upd vs n x2)) :
    wpY_put post (nI c, nI n, ks, vs) x1 x2 := by
  unfold wpY_put
  dsimp only
  refine om_yfind (by omega) (fun j hj e => ?_) (fun hne => ?_)
  · have h : ¬ nI j < 0 := nI_pos (by omega)
    have hi : vp_in (nI j) 12 := vp_in_nI (by omega) (by omega)
    exact br_f h ⟨hi, nm_r (om_uc (by omega)) (K2 j hj e)⟩
  · refine br_t om_m1 (pk_eq n c (fun e => K3 hne e) (fun e => ?_))
    have hi : vp_in (nI n) 12 := vp_in_nI (by omega) (by omega)
    exact ⟨hi, nm_r (om_uc (by omega)) ⟨hi, nm_r (om_uc (by omega)) (nm_r (nI_1 n) (K1 hne (by omega)))⟩⟩
/-- Y's remove, whole -/
theorem om_yrem {post : Int32 → SY → Prop} {x1 : Int32} {c n : Nat} {ks vs : Nat → Int32} (hn : n ≤ 12)
    (K4 : ∀ (m j : Nat), n = m + 1 → j ≤ m → ks j = x1 → post 4 (nI c, nI m, upd ks j (ks m), upd vs j (vs m)))
    (K5 : (∀ j, j < n → ks j ≠ x1) → post 5 (nI c, nI n, ks, vs)) :
    wpY_remove post (nI c, nI n, ks, vs) x1 := by
  unfold wpY_remove
  dsimp only
  refine om_yfind hn (fun j hj e => ?_) (fun hne => br_f om_m1' (K5 hne))
  obtain ⟨m, rfl⟩ : ∃ m, n = m + 1 := ⟨n - 1, by omega⟩
  have h : 0 ≤ nI j := nI_pos' (by omega)
  have hp : nI (m + 1) - 1 = nI m := nI_pred m
  have hi : vp_in (nI j) 12 := vp_in_nI (by omega) (by omega)
  have him : vp_in (nI (m + 1) - 1) 12 := by rw [hp]; exact vp_in_nI (by omega) (by omega)
  have c1 : (nI j).toNatClampNeg = j := nI_clamp (by omega)
  have c0 : (nI m).toNatClampNeg = m := nI_clamp (by omega)
  have e1 : ∀ f : Nat → Int32, upd f (nI j).toNatClampNeg (f (nI (m + 1) - 1).toNatClampNeg) = upd f j (f m) := by
    intro f
    rw [hp, c1, c0]
  exact br_t h ⟨him, hi, nm_r (e1 ks) ⟨him, hi, nm_r (e1 vs) (nm_r hp (K4 m j rfl (by omega) e))⟩⟩
/-- Y's get, whole -/
theorem om_yget {post : Int32 → Prop} {x1 : Int32} {c n : Nat} {ks vs : Nat → Int32} (hn : n ≤ 12) (K : ∀ j, j < n → ks j = x1 → post (vs j)) (K0 : (∀ j, j < n → ks j ≠ x1) → post 0) : wpY_get post (nI c, nI n, ks, vs) x1 := by
  unfold wpY_get
  dsimp only
  refine om_yfind hn (fun j hj e => ?_) (fun hne => br_f om_m1' (K0 hne))
  have h : 0 ≤ nI j := nI_pos' (by omega)
  have hi : vp_in (nI j) 12 := vp_in_nI (by omega) (by omega)
  have c1 : (nI j).toNatClampNeg = j := nI_clamp (by omega)
  have hp : post (vs (nI j).toNatClampNeg) := by rw [c1]; exact K j hj e
  exact br_t h ⟨hi, hp⟩
/-- Y's countUpTo -/
theorem om_ycnt4 {post : Int32 → Prop} {x1 fc : Int32} {n : Nat} (hn : n ≤ 12) {a b : Nat → Int32} (hp : post (nI (om_cnt (om_le x1) a b n))) : ∀ d q : Nat, q + d = n → wY_countUpTo_4 post x1 fc (nI n) a b (d + 1) (nI (om_cnt (om_le x1) a b q)) (nI q) := by
  intro d
  induction d with
  | zero =>
    intro q hq
    have e : q = n := by omega
    subst e
    exact br_t (Int32.le_refl _) hp
  | succ d ih =>
    intro q hq
    have h : ¬ nI n ≤ nI q := nI_ge (by omega) (by omega)
    have hi : vp_in (nI q) 12 := vp_in_nI (by omega) (by omega)
    have hc : (nI q).toNatClampNeg = q := nI_clamp (by omega)
    have h1 := ih (q + 1) (by omega)
    by_cases z : x1 < a q
    · have z' : x1 < a (nI q).toNatClampNeg := by rw [hc]; exact z
      have e : om_cnt (om_le x1) a b (q + 1) = om_cnt (om_le x1) a b q := by
        show om_cnt (om_le x1) a b q + (!decide (x1 < a q)).toNat = _
        rw [decide_eq_true z]
        rfl
      rw [e] at h1
      exact br_f h ⟨hi, br_t z' (nm_r (nI_1 q) h1)⟩
    · have z' : ¬ x1 < a (nI q).toNatClampNeg := by rw [hc]; exact z
      have e : om_cnt (om_le x1) a b (q + 1) = om_cnt (om_le x1) a b q + 1 := by
        show om_cnt (om_le x1) a b q + (!decide (x1 < a q)).toNat = _
        rw [decide_eq_false z]
        rfl
      rw [e] at h1
      exact br_f h ⟨hi, br_f z' (nm_r (nI_1 _) (nm_r (nI_1 q) h1))⟩
theorem om_ycnt {post : Int32 → Prop} {x1 : Int32} {c n : Nat} {a b : Nat → Int32} (hn : n ≤ 12) (hp : post (nI (om_cnt (om_le x1) a b n))) : wpY_countUpTo post (nI c, nI n, a, b) x1 :=
  Exists.intro (n + 1) (om_ycnt4 hn hp n 0 (Nat.zero_add n))
/-- Y's keyAt: the inner loop, which counts the smaller keys -/
theorem om_ykey29 {post J : Int32 → Prop} {fc : Int32} {n m i : Nat} {ks vs : Nat → Int32} (hn : n ≤ 12) (hm : m < 2 ^ 31) (hi : i < n) (K1 : om_cnt (om_lt (ks i)) ks vs n = m → post (ks i)) (K2 : om_cnt (om_lt (ks i)) ks vs n ≠ m → J (nI (i + 1))) : ∀ d q : Nat, q + d = n → wY_keyAt_29 post J (nI m) (nI i) fc (nI n) ks vs (d + 1) (nI (om_cnt (om_lt (ks i)) ks vs q)) (nI q) := by
  have hii : vp_in (nI i) 12 := vp_in_nI (by omega) (by omega)
  have hci : (nI i).toNatClampNeg = i := nI_clamp (by omega)
  intro d
  induction d with
  | zero =>
    intro q hq
    have e : q = n := by omega
    subst e
    have hb : om_cnt (om_lt (ks i)) ks vs q ≤ q := om_bnd _ q
    refine br_t (Int32.le_refl _) (pk_eq _ m (fun e => ?_) (fun e => nm_r (nI_1 i) (K2 e)))
    have hp : post (ks (nI i).toNatClampNeg) := by rw [hci]; exact K1 e
    exact ⟨hii, hp⟩
  | succ d ih =>
    intro q hq
    have h : ¬ nI n ≤ nI q := nI_ge (by omega) (by omega)
    have hiq : vp_in (nI q) 12 := vp_in_nI (by omega) (by omega)
    have hc : (nI q).toNatClampNeg = q := nI_clamp (by omega)
    have h1 := ih (q + 1) (by omega)
    by_cases z : ks i ≤ ks q
    · have z' : ks (nI i).toNatClampNeg ≤ ks (nI q).toNatClampNeg := by rw [hc, hci]; exact z
      have e : om_cnt (om_lt (ks i)) ks vs (q + 1) = om_cnt (om_lt (ks i)) ks vs q := by
        show om_cnt (om_lt (ks i)) ks vs q + (!decide (ks i ≤ ks q)).toNat = _
        rw [decide_eq_true z]
        rfl
      rw [e] at h1
      exact br_f h ⟨hiq, hii, br_t z' (nm_r (nI_1 q) h1)⟩
    · have z' : ¬ ks (nI i).toNatClampNeg ≤ ks (nI q).toNatClampNeg := by rw [hc, hci]; exact z
      have e : om_cnt (om_lt (ks i)) ks vs (q + 1) = om_cnt (om_lt (ks i)) ks vs q + 1 := by
        show om_cnt (om_lt (ks i)) ks vs q + (!decide (ks i ≤ ks q)).toNat = _
        rw [decide_eq_false z]
        rfl
      rw [e] at h1
      exact br_f h ⟨hiq, hii, br_f z' (nm_r (nI_1 _) (nm_r (nI_1 q) h1))⟩
/-- Y's keyAt: the outer loop -/
theorem om_ykey16 {post : Int32 → Prop} {fc r : Int32} {n m i0 : Nat} {ks vs : Nat → Int32} (hn : n ≤ 12) (hm : m < n) (hr : ∀ i, i < n → om_cnt (om_lt (ks i)) ks vs n = m → ks i = r) (hp : post r) (h0 : i0 < n) (e0 : om_cnt (om_lt (ks i0)) ks vs n = m) : ∀ d q : Nat, q + d = n → q ≤ i0 → wY_keyAt_16 post (nI m) fc (nI n) ks vs (d + 1) (nI q) := by
  intro d
  induction d with
  | zero => intro q hq h; exact absurd h (by omega)
  | succ d ih =>
    intro q hq hqi
    have h : ¬ nI n ≤ nI q := nI_ge (by omega) (by omega)
    have L := om_ykey29 (post := post) (J := wY_keyAt_16 post (nI m) fc (nI n) ks vs (d + 1)) (fc := fc) (n := n) (m := m) (i := q) (ks := ks) (vs := vs) hn (by omega) (by omega)
      (fun e => by rw [hr q (by omega) e]; exact hp)
      (fun e => ih (q + 1) (by omega) (by
        have hne : q ≠ i0 := fun z => e (by rw [z]; exact e0)
        omega)) n 0 (by omega)
    exact br_f h ⟨n + 1, L⟩
/-- Y's keyAt, inside the range -/
theorem om_ykey {post : Int32 → Prop} {r : Int32} {c n m i0 : Nat} {ks vs : Nat → Int32} (hn : n ≤ 12) (hm : m < n) (hr : ∀ i, i < n → om_cnt (om_lt (ks i)) ks vs n = m → ks i = r) (hp : post r) (h0 : i0 < n) (e0 : om_cnt (om_lt (ks i0)) ks vs n = m) : wpY_keyAt post (nI c, nI n, ks, vs) (nI m) :=
  br_f (nI_pos (by omega)) (br_t (nI_lt hm (by omega)) ⟨n + 1, om_ykey16 hn hm hr hp h0 e0 n 0 (Nat.zero_add n) (Nat.zero_le i0)⟩)
end
section
/-- one capacity and one number of keys; X's keys rise strictly; both hold the same pairs, each as often -/
def i_Rel (_ : Nat) (u : SX) (v : SY) : Prop := ∃ (c n : Nat) (a b ks vs : Nat → Int32), u = (nI c, nI n, a, b) ∧ v = (nI c, nI n, ks, vs) ∧ n ≤ c ∧ c ≤ 12 ∧ om_Srt a n ∧ ∀ p : Int32 → Int32 → Bool, om_cnt p a b n = om_cnt p ks vs n
theorem om_rel (k : Nat) {c n : Nat} {a b ks vs : Nat → Int32} (h1 : n ≤ c) (h2 : c ≤ 12) (h3 : om_Srt a n) (h4 : ∀ p : Int32 → Int32 → Bool, om_cnt p a b n = om_cnt p ks vs n) : i_Rel k (nI c, nI n, a, b) (nI c, nI n, ks, vs) := ⟨c, n, a, b, ks, vs, rfl, rfl, h1, h2, h3, h4⟩
theorem om_rel0 (k : Nat) {c : Nat} (h : c ≤ 12) : i_Rel k (nI c, 0, fun _ => 0, fun _ => 0) (nI c, 0, fun _ => 0, fun _ => 0) := by
  have L := om_rel k (c := c) (n := 0) (a := fun _ => 0) (b := fun _ => 0) (ks := fun _ => 0) (vs := fun _ => 0) (Nat.zero_le c) h (fun i j h1 h2 => absurd h2 (Nat.not_lt_zero j)) (fun p => rfl)
  rw [nI_0] at L
  exact L
theorem i_up {k : Nat} {u : SX} {v : SY} (h : i_Rel k u v) : i_Rel (k + 3) u v := h
theorem i_vc0 (k0 : Int32) : wpX_init (fun u => wpY_init (fun v => i_Rel 1 u v) k0) k0 := by
  by_cases h0 : 0 ≤ k0
  · by_cases h12 : k0 ≤ 12
    · obtain ⟨c, hc, rfl⟩ := nI_of2 (x := k0) (M := 12) (n := 12) (by decide) (Int32.not_lt.mpr h0) h12
      exact br_t h0 (br_t h12 (br_t h0 (br_t h12 (om_rel0 1 hc))))
    · exact br_t h0 (br_f h12 (br_t h0 (br_f h12 (om_rel0 1 (c := 12) (Nat.le_refl 12)))))
  · have h12 : (0 : Int32) ≤ 12 := by decide
    exact br_f h0 (br_t h12 (br_f h0 (om_rel0 1 (c := 0) (Nat.zero_le 12))))
theorem i_vc_put {k : Nat} {u : SX} {v : SY} (I : i_Rel k u v) (hk : k + 3 ≤ 1537) (v1 : Int32) (v2 : Int32) : wpX_put (fun r u' => wpY_put (fun r' v' => r' = r ∧ i_Rel (k + 3) u' v') v v1 v2) u v1 v2 := by
  obtain ⟨c, n, a, b, ks, vs, rfl, rfl, hnc, hc, hs, H⟩ := I
  have toX : ∀ j, j < n → ∃ i, i < n ∧ a i = ks j ∧ b i = vs j := fun j hj => om_mem H hj
  have toY : ∀ j, j < n → ∃ i, i < n ∧ ks i = a j ∧ vs i = b j := fun j hj => om_mem (fun p => (H p).symm) hj
  have noY : ∀ q, q < n → a q = v1 → ¬ ∀ j, j < n → ks j ≠ v1 := by
    intro q hq e hne
    obtain ⟨i, hi, e1, _⟩ := toY q hq
    exact hne i hi (e1.trans e)
  have noX : (∀ j, j < n → a j ≠ v1) → ∀ j, j < n → ks j ≠ v1 := by
    intro hne j hj e
    obtain ⟨i, hi, e1, _⟩ := toX j hj
    exact hne i hi (e1.trans e)
  refine om_xput hnc hc hs (fun q hq e => ?_) (fun hne e => ?_) (fun hne hl q a' b' hq hlo hhi ha hb => ?_)
  · refine om_yput hnc hc (fun j hj ej => ⟨rfl, om_rel _ hnc hc hs (fun p => ?_)⟩) (fun hne _ => absurd hne (noY q hq e)) (fun hne _ => absurd hne (noY q hq e))
    obtain ⟨i, hi, e1, e2⟩ := toX j hj
    have hiq : i = q := om_inj hs hi hq (by rw [e1, ej, e])
    subst hiq
    have A := om_set p (a := a) (b := b) (a' := a) (b' := upd b i v2) n hi (fun t _ ht => ⟨rfl, pk_un ht⟩)
    have B := om_set p (a := ks) (b := vs) (a' := ks) (b' := upd vs j v2) n hj (fun t _ ht => ⟨rfl, pk_un ht⟩)
    have C := H p
    rw [pk_us] at A B
    rw [e1, e2] at A
    omega
  · exact om_yput hnc hc (fun j hj ej => absurd ej (noX hne j hj)) (fun _ _ => ⟨rfl, om_rel _ hnc hc hs H⟩) (fun _ hl => absurd e (by omega))
  · refine om_yput hnc hc (fun j hj ej => absurd ej (noX hne j hj)) (fun _ e => absurd e (by omega)) (fun _ _ => ⟨rfl, om_rel _ (by omega) hc (om_insS hq hs hlo hhi ha) (fun p => ?_)⟩)
    have A := om_insC p hq ha hb
    have B := om_insC p (a := ks) (b := vs) (a' := upd ks n v1) (b' := upd vs n v2) (q := n) (n := n) (x := v1) (y := v2) (Nat.le_refl n) ⟨fun j hj => pk_un (by omega), pk_us, fun j h1 h2 => absurd h2 (by omega)⟩ ⟨fun j hj => pk_un (by omega), pk_us, fun j h1 h2 => absurd h2 (by omega)⟩
    rw [A, B, H p]
theorem i_vc_remove {k : Nat} {u : SX} {v : SY} (I : i_Rel k u v) (hk : k + 3 ≤ 1537) (v1 : Int32) : wpX_remove (fun r u' => wpY_remove (fun r' v' => r' = r ∧ i_Rel (k + 3) u' v') v v1) u v1 := by
  obtain ⟨c, n, a, b, ks, vs, rfl, rfl, hnc, hc, hs, H⟩ := I
  have toX : ∀ j, j < n → ∃ i, i < n ∧ a i = ks j ∧ b i = vs j := fun j hj => om_mem H hj
  have toY : ∀ j, j < n → ∃ i, i < n ∧ ks i = a j ∧ vs i = b j := fun j hj => om_mem (fun p => (H p).symm) hj
  refine om_xrem (by omega) hs (fun m q a' b' en hq e ha hb => ?_) (fun hne => ?_)
  · subst en
    refine om_yrem (by omega) (fun m' j en hj ej => ?_) (fun hne => ?_)
    · have em : m = m' := by omega
      subst em
      refine ⟨rfl, om_rel _ (by omega) hc (om_delS hs ha) (fun p => ?_)⟩
      obtain ⟨i, hi, e1, e2⟩ := toX j (by omega)
      have hiq : i = q := om_inj hs hi (by omega) (by rw [e1, ej, e])
      subst hiq
      have A := om_delC p hq ha hb
      have B := om_swap p (a := ks) (b := vs) (a' := upd ks j (ks m)) (b' := upd vs j (vs m)) hj pk_us pk_us (fun t _ ht => ⟨pk_un ht, pk_un ht⟩)
      have C := H p
      rw [e1, e2] at A
      omega
    · obtain ⟨i, hi, e1, _⟩ := toY q (by omega)
      exact absurd (e1.trans e) (hne i hi)
  · refine om_yrem (by omega) (fun m j en hj ej => ?_) (fun _ => ⟨rfl, om_rel _ hnc hc hs H⟩)
    obtain ⟨i, hi, e1, _⟩ := toX j (by omega)
    exact absurd (e1.trans ej) (hne i hi)
theorem i_vc_get {k : Nat} {u : SX} {v : SY} (I : i_Rel k u v) (hk : k + 3 ≤ 1537) (v1 : Int32) : wpX_get (fun r => wpY_get (fun r' => r' = r ∧ i_Rel (k + 3) u v) v v1) u v1 := by
  have I' := i_up I
  obtain ⟨c, n, a, b, ks, vs, rfl, rfl, hnc, hc, hs, H⟩ := I
  have toX : ∀ j, j < n → ∃ i, i < n ∧ a i = ks j ∧ b i = vs j := fun j hj => om_mem H hj
  have toY : ∀ j, j < n → ∃ i, i < n ∧ ks i = a j ∧ vs i = b j := fun j hj => om_mem (fun p => (H p).symm) hj
  refine om_xget (by omega) (fun q hq e => ?_) (fun hne => ?_)
  · refine om_yget (by omega) (fun j hj ej => ⟨?_, I'⟩) (fun hne => ?_)
    · obtain ⟨i, hi, e1, e2⟩ := toX j hj
      have hiq : i = q := om_inj hs hi hq (by rw [e1, ej, e])
      subst hiq
      exact e2.symm
    · obtain ⟨i, hi, e1, _⟩ := toY q hq
      exact absurd (e1.trans e) (hne i hi)
  · refine om_yget (by omega) (fun j hj ej => ?_) (fun _ => ⟨rfl, I'⟩)
    obtain ⟨i, hi, e1, _⟩ := toX j hj
    exact absurd (e1.trans ej) (hne i hi)
theorem i_vc_countUpTo {k : Nat} {u : SX} {v : SY} (I : i_Rel k u v) (hk : k + 3 ≤ 1537) (v1 : Int32) : wpX_countUpTo (fun r => wpY_countUpTo (fun r' => r' = r ∧ i_Rel (k + 3) u v) v v1) u v1 := by
  have I' := i_up I
  obtain ⟨c, n, a, b, ks, vs, rfl, rfl, hnc, hc, hs, H⟩ := I
  exact om_xcnt (by omega) (om_ycnt (by omega) ⟨congrArg nI (H (om_le v1)).symm, I'⟩)
theorem i_vc_keyAt {k : Nat} {u : SX} {v : SY} (I : i_Rel k u v) (hk : k + 3 ≤ 1537) (v1 : Int32) : wpX_keyAt (fun r => wpY_keyAt (fun r' => r' = r ∧ i_Rel (k + 3) u v) v v1) u v1 := by
  have I' := i_up I
  obtain ⟨c, n, a, b, ks, vs, rfl, rfl, hnc, hc, hs, H⟩ := I
  by_cases h0 : v1 < 0
  · exact br_t h0 (br_t h0 ⟨rfl, I'⟩)
  · by_cases hn : v1 < nI n
    · obtain ⟨m, hm, rfl⟩ := nI_of h0
      have hmn : m < n := (nI_ltI hm (by omega)).mp hn
      have hi : vp_in (nI m) 12 := vp_in_nI (by omega) (by omega)
      have hcl : (nI m).toNatClampNeg = m := nI_clamp hm
      have rk : ∀ i q, i < n → q < n → a q = ks i → om_cnt (om_lt (ks i)) ks vs n = q := by
        intro i q hi hq e
        rw [← e, ← H, om_rank hs hq n (Nat.le_refl n), if_neg (by omega)]
      obtain ⟨i0, h00, e00, _⟩ := om_mem (fun p => (H p).symm) hmn
      refine br_f h0 (br_t hn ⟨hi, ?_⟩)
      rw [hcl]
      refine om_ykey (r := a m) (i0 := i0) (by omega) hmn (fun i hi e => ?_) ⟨rfl, I'⟩ h00 (rk i0 m h00 hmn e00.symm)
      obtain ⟨q, hq, e1, _⟩ := om_mem H hi
      have hqm : q = m := by rw [← rk i q hi hq e1]; exact e
      rw [← e1, hqm]
    · exact br_f h0 (br_f hn (br_f h0 (br_f hn ⟨rfl, I'⟩)))
end
