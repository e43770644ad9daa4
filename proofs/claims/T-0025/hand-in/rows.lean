section
/-- one or nought -/
def sx_b (t : Bool) : Nat := if t = true then 1 else 0
/-- how many of the first n pairs satisfy P -/
def sx_cn (P : Int32 → Int32 → Bool) (a b : Nat → Int32) : Nat → Nat
  | 0 => 0
  | n + 1 => sx_cn P a b n + sx_b (P (a n) (b n))
theorem sx_b1 {t : Bool} (h : t = true) : sx_b t = 1 := by rw [h]; rfl
theorem sx_b0 {t : Bool} (h : ¬ t = true) : sx_b t = 0 := by
  unfold sx_b; rw [if_neg h]
theorem sx_ble (t : Bool) : sx_b t ≤ 1 := by cases t <;> decide
theorem sx_s (P : Int32 → Int32 → Bool) (a b : Nat → Int32) (n : Nat) : sx_cn P a b (n + 1) = sx_cn P a b n + sx_b (P (a n) (b n)) := rfl
theorem sx_cn_le (P : Int32 → Int32 → Bool) (a b : Nat → Int32) : ∀ n, sx_cn P a b n ≤ n := by
  intro n
  induction n with
  | zero => exact Nat.le_refl 0
  | succ n ih =>
    have h := sx_ble (P (a n) (b n))
    rw [sx_s]; omega
theorem sx_cn_congr (P : Int32 → Int32 → Bool) {a b a' b' : Nat → Int32} : ∀ n, (∀ j, j < n → a' j = a j) → (∀ j, j < n → b' j = b j) → sx_cn P a' b' n = sx_cn P a b n := by
  intro n
  induction n with
  | zero => intro _ _; rfl
  | succ n ih =>
    intro ha hb
    rw [sx_s, sx_s, ih (fun j hj => ha j (by omega)) (fun j hj => hb j (by omega)), ha n (by omega), hb n (by omega)]
theorem sx_cn_ins (P : Int32 → Int32 → Bool) {a b a' b' : Nat → Int32} {x y : Int32} {p : Nat} (la : ∀ j, j < p → a' j = a j) (lb : ∀ j, j < p → b' j = b j) (xa : a' p = x) (yb : b' p = y) :
    ∀ n, p ≤ n → (∀ j, p ≤ j → j < n → a' (j + 1) = a j) → (∀ j, p ≤ j → j < n → b' (j + 1) = b j) → sx_cn P a' b' (n + 1) = sx_cn P a b n + sx_b (P x y) := by
  intro n
  induction n with
  | zero =>
    intro hp _ _
    have e : p = 0 := by omega
    subst e
    rw [sx_s, xa, yb]; rfl
  | succ n ih =>
    intro hp ha hb
    by_cases e : p = n + 1
    · subst e
      rw [sx_s, sx_cn_congr P (n + 1) la lb, xa, yb]
    · have h := ih (by omega) (fun j h1 h2 => ha j h1 (by omega)) (fun j h1 h2 => hb j h1 (by omega))
      rw [sx_s, h, ha n (by omega) (by omega), hb n (by omega) (by omega), sx_s]
      omega
theorem sx_us {f : Nat → Int32} {k : Nat} {x : Int32} : upd f k x k = x := if_pos rfl
theorem sx_un {f : Nat → Int32} {k j : Nat} {x : Int32} (h : j ≠ k) : upd f k x j = f j := if_neg h
theorem sx_cn_upd (P : Int32 → Int32 → Bool) {a b : Nat → Int32} {x y : Int32} {q : Nat} : ∀ n, q < n → sx_cn P (upd a q x) (upd b q y) n + sx_b (P (a q) (b q)) = sx_cn P a b n + sx_b (P x y) := by
  intro n
  induction n with
  | zero => intro h; omega
  | succ n ih =>
    intro h
    by_cases e : q = n
    · subst e
      have c : sx_cn P (upd a q x) (upd b q y) q = sx_cn P a b q := sx_cn_congr P q (fun j hj => sx_un (by omega)) (fun j hj => sx_un (by omega))
      rw [sx_s, c, sx_us, sx_us, sx_s]
      omega
    · have i := ih (by omega)
      rw [sx_s, sx_un (f := a) (by omega : n ≠ q), sx_un (f := b) (by omega : n ≠ q), sx_s]
      omega
/-- place q takes the last pair, the last goes -/
theorem sx_cn_drop (P : Int32 → Int32 → Bool) {a b : Nat → Int32} {q m : Nat} (h : q ≤ m) : sx_cn P (upd a q (a m)) (upd b q (b m)) m + sx_b (P (a q) (b q)) = sx_cn P a b (m + 1) := by
  by_cases e : q = m
  · subst e
    have c : sx_cn P (upd a q (a q)) (upd b q (b q)) q = sx_cn P a b q := sx_cn_congr P q (fun j hj => sx_un (by omega)) (fun j hj => sx_un (by omega))
    rw [c, sx_s]
  · rw [sx_cn_upd P m (by omega), sx_s]
theorem sx_cn_pos {P : Int32 → Int32 → Bool} {a b : Nat → Int32} : ∀ n, 0 < sx_cn P a b n → ∃ j, j < n ∧ P (a j) (b j) = true := by
  intro n
  induction n with
  | zero => intro h; exact absurd h (Nat.lt_irrefl 0)
  | succ n ih =>
    intro h
    by_cases e : P (a n) (b n) = true
    · exact ⟨n, by omega, e⟩
    · rw [sx_s, sx_b0 e] at h
      obtain ⟨j, hj, q⟩ := ih (by omega)
      exact ⟨j, by omega, q⟩
theorem sx_cn_in {P : Int32 → Int32 → Bool} {a b : Nat → Int32} {j : Nat} (q : P (a j) (b j) = true) : ∀ n, j < n → 0 < sx_cn P a b n := by
  intro n
  induction n with
  | zero => intro h; omega
  | succ n ih =>
    intro h
    rw [sx_s]
    by_cases e : j = n
    · subst e
      rw [sx_b1 q]; omega
    · have i := ih (by omega)
      omega
/-- the same pairs, as often -/
def sx_Eq (n : Nat) (K V A B : Nat → Int32) : Prop := ∀ P : Int32 → Int32 → Bool, sx_cn P A B n = sx_cn P K V n
/-- strictly increasing below n -/
def sx_So (K : Nat → Int32) (n : Nat) : Prop := ∀ i j, i < j → j < n → K i < K j
theorem sx_Eq_symm {n : Nat} {K V A B : Nat → Int32} (h : sx_Eq n K V A B) : sx_Eq n A B K V := fun P => (h P).symm
theorem sx_mem {n : Nat} {K V A B : Nat → Int32} (h : sx_Eq n K V A B) {j : Nat} (hj : j < n) : ∃ i, i < n ∧ K i = A j ∧ V i = B j := by
  have e := h (fun k v => decide (k = A j) && decide (v = B j))
  have p := sx_cn_in (P := fun k v => decide (k = A j) && decide (v = B j)) (a := A) (b := B) (j := j) (by simp) n hj
  rw [e] at p
  obtain ⟨i, hi, q⟩ := sx_cn_pos n p
  have r : (decide (K i = A j) && decide (V i = B j)) = true := q
  rw [Bool.and_eq_true, decide_eq_true_eq, decide_eq_true_eq] at r
  exact ⟨i, hi, r.1, r.2⟩
/-- the count of keys below x -/
def sx_rk (x : Int32) (a b : Nat → Int32) (n : Nat) : Nat := sx_cn (fun k _ => decide (k < x)) a b n
theorem sx_rk_le (x : Int32) (a b : Nat → Int32) (n : Nat) : sx_rk x a b n ≤ n := sx_cn_le _ a b n
theorem sx_rk_0 (x : Int32) (a b : Nat → Int32) : sx_rk x a b 0 = 0 := rfl
theorem sx_rk_t {x : Int32} {a b : Nat → Int32} {n : Nat} (h : a n < x) : sx_rk x a b (n + 1) = sx_rk x a b n + 1 := by
  have e : sx_b (decide (a n < x)) = 1 := sx_b1 (decide_eq_true h)
  show sx_cn (fun k _ => decide (k < x)) a b n + sx_b (decide (a n < x)) = sx_cn (fun k _ => decide (k < x)) a b n + 1
  rw [e]
theorem sx_rk_f {x : Int32} {a b : Nat → Int32} {n : Nat} (h : ¬ a n < x) : sx_rk x a b (n + 1) = sx_rk x a b n := by
  have e : sx_b (decide (a n < x)) = 0 := sx_b0 (by rw [decide_eq_true_eq]; exact h)
  show sx_cn (fun k _ => decide (k < x)) a b n + sx_b (decide (a n < x)) = sx_cn (fun k _ => decide (k < x)) a b n
  omega
theorem sx_rk_p {x : Int32} {a b : Nat → Int32} : ∀ n p, p ≤ n → (∀ j, j < p → a j < x) → (∀ j, p ≤ j → j < n → ¬ a j < x) → sx_rk x a b n = p := by
  intro n
  induction n with
  | zero => intro p hp _ _; rw [sx_rk_0]; omega
  | succ n ih =>
    intro p hp h1 h2
    by_cases e : p = n + 1
    · subst e
      rw [sx_rk_t (h1 n (by omega)), ih n (Nat.le_refl n) (fun j hj => h1 j (by omega)) (fun j q1 q2 => absurd q2 (by omega))]
    · rw [sx_rk_f (h2 n (by omega) (by omega)), ih p (by omega) h1 (fun j q1 q2 => h2 j q1 (by omega))]
theorem sx_rk_eq {n : Nat} {K V A B : Nat → Int32} (h : sx_Eq n K V A B) (x : Int32) : sx_rk x A B n = sx_rk x K V n := h (fun k _ => decide (k < x))
/-- in a sorted array a key's rank is its place -/
theorem sx_rk_so {n : Nat} {K V : Nat → Int32} (h : sx_So K n) {i : Nat} (hi : i < n) : sx_rk (K i) K V n = i :=
  sx_rk_p n i (by omega) (fun j hj => h j i hj hi) (fun j h1 h2 => by
    by_cases e : i = j
    · subst e; exact Int32.lt_irrefl
    · exact Int32.lt_asymm (h i j (by omega) h2))
/-- where the search stops -/
theorem sx_find (K : Nat → Int32) (x : Int32) : ∀ n, ∃ p, p ≤ n ∧ (∀ j, j < p → K j < x) ∧ (p < n → x ≤ K p) := by
  intro n
  induction n with
  | zero => exact ⟨0, Nat.le_refl 0, fun j hj => absurd hj (by omega), fun h => absurd h (by omega)⟩
  | succ n ih =>
    obtain ⟨p, hp, h1, h2⟩ := ih
    by_cases e : p < n
    · exact ⟨p, by omega, h1, fun _ => h2 e⟩
    · have e : p = n := by omega
      subst e
      by_cases q : K p < x
      · refine ⟨p + 1, Nat.le_refl _, fun j hj => ?_, fun h => absurd h (by omega)⟩
        by_cases f : j = p
        · subst f; exact q
        · exact h1 j (by omega)
      · exact ⟨p, by omega, h1, fun _ => Int32.not_lt.mp q⟩
/-- from the stop on all keys are at least x -/
theorem sx_hi {K : Nat → Int32} {x : Int32} {n p : Nat} (hs : sx_So K n) (h2 : p < n → x ≤ K p) : ∀ j, p ≤ j → j < n → ¬ K j < x := by
  intro j h1 hj
  rw [Int32.not_lt]
  by_cases e : p = j
  · subst e; exact h2 hj
  · exact Int32.le_trans (h2 (by omega)) (Int32.le_of_lt (hs p j (by omega) hj))
/-- the key is in the array only where the search stops -/
theorem sx_only {K : Nat → Int32} {x : Int32} {n p : Nat} (hs : sx_So K n) (h1 : ∀ j, j < p → K j < x) (h2 : p < n → x ≤ K p) {j : Nat} (hj : j < n) (e : K j = x) : j = p := by
  by_cases a : j < p
  · exact absurd e (Int32.ne_of_lt (h1 j a))
  · by_cases b : p = j
    · exact b.symm
    · have c := hs p j (by omega) hj
      rw [e] at c
      exact absurd (Int32.lt_of_lt_of_le c (h2 (by omega))) Int32.lt_irrefl
theorem sx_least (P : Nat → Prop) : ∀ n, P n → ∃ q, q ≤ n ∧ P q ∧ ∀ j, j < q → ¬ P j := by
  intro n
  induction n using Nat.strongRecOn with
  | ind n ih =>
    intro h
    by_cases e : ∃ j, j < n ∧ P j
    · obtain ⟨j, hj, hp⟩ := e
      obtain ⟨q, hq, r⟩ := ih j hj hp
      exact ⟨q, by omega, r⟩
    · exact ⟨n, Nat.le_refl n, h, fun j hj hp => e ⟨j, hj, hp⟩⟩
/-- a' is a with x put in at p, what stood at p .. p + d - 1 one further -/
def sx_Ins (p d : Nat) (x : Int32) (a a' : Nat → Int32) : Prop := (∀ j, j < p → a' j = a j) ∧ a' p = x ∧ (∀ j, p ≤ j → j < p + d → a' (j + 1) = a j) ∧ ∀ j, p + d < j → a' j = a j
theorem sx_Ins_0 (p : Nat) (x : Int32) (a : Nat → Int32) : sx_Ins p 0 x a (upd a p x) :=
  ⟨fun j hj => sx_un (by omega), sx_us, fun j h1 h2 => absurd h2 (by omega), fun j hj => sx_un (by omega)⟩
theorem sx_Ins_s {p d : Nat} {x : Int32} {a a' : Nat → Int32} (h : sx_Ins p d x (upd a (p + d + 1) (a (p + d))) a') : sx_Ins p (d + 1) x a a' := by
  obtain ⟨h1, h2, h3, h4⟩ := h
  refine ⟨fun j hj => ?_, h2, fun j q1 q2 => ?_, fun j hj => ?_⟩
  · rw [h1 j hj, sx_un (by omega)]
  · by_cases e : j = p + d
    · subst e
      rw [h4 (p + d + 1) (by omega), sx_us]
    · rw [h3 j q1 (by omega), sx_un (by omega)]
  · rw [h4 j (by omega), sx_un (by omega)]
/-- a' is a with place p taken out, down to place p + d -/
def sx_Del (p d : Nat) (a a' : Nat → Int32) : Prop := (∀ j, j < p → a' j = a j) ∧ ∀ j, p ≤ j → j < p + d → a' j = a (j + 1)
theorem sx_Del_0 (p : Nat) (x : Int32) (a : Nat → Int32) : sx_Del p 0 a (upd a p x) :=
  ⟨fun j hj => sx_un (by omega), fun j h1 h2 => absurd h2 (by omega)⟩
theorem sx_Del_s {p d : Nat} {a a' : Nat → Int32} (h : sx_Del (p + 1) d (upd a p (a (p + 1))) a') : sx_Del p (d + 1) a a' := by
  obtain ⟨h1, h2⟩ := h
  refine ⟨fun j hj => ?_, fun j q1 q2 => ?_⟩
  · rw [h1 j (by omega), sx_un (by omega)]
  · by_cases e : j = p
    · subst e
      rw [h1 j (by omega), sx_us]
    · rw [h2 j (by omega) (by omega), sx_un (by omega)]
/-- insertion keeps the order -/
theorem sx_So_ins {K K' : Nat → Int32} {x : Int32} {p d : Nat} (hs : sx_So K (p + d)) (h1 : ∀ j, j < p → K j < x) (h2 : p < p + d → x ≤ K p) (h3 : p < p + d → K p ≠ x) (hi : sx_Ins p d x K K') : sx_So K' (p + d + 1) := by
  obtain ⟨a1, a2, a3, -⟩ := hi
  have up : ∀ j, p ≤ j → j < p + d → x < K j := by
    intro j q1 q2
    have l : p < p + d := by omega
    have s : x < K p := Int32.lt_of_le_of_ne (h2 l) (fun e => h3 l e.symm)
    by_cases e : p = j
    · subst e; exact s
    · exact Int32.lt_trans s (hs p j (by omega) q2)
  intro i j hij hj
  by_cases ei : i < p
  · rw [a1 i ei]
    by_cases ej : j < p
    · rw [a1 j ej]; exact hs i j hij (by omega)
    · by_cases e : j = p
      · subst e; rw [a2]; exact h1 i ei
      · obtain ⟨j, rfl⟩ : ∃ t, j = t + 1 := ⟨j - 1, by omega⟩
        rw [a3 j (by omega) (by omega)]
        exact hs i j (by omega) (by omega)
  · obtain ⟨j, rfl⟩ : ∃ t, j = t + 1 := ⟨j - 1, by omega⟩
    rw [a3 j (by omega) (by omega)]
    by_cases e : i = p
    · subst e; rw [a2]; exact up j (by omega) (by omega)
    · obtain ⟨i, rfl⟩ : ∃ t, i = t + 1 := ⟨i - 1, by omega⟩
      rw [a3 i (by omega) (by omega)]
      exact hs i j (by omega) (by omega)
/-- removal keeps the order -/
theorem sx_So_del {K K' : Nat → Int32} {p d : Nat} (hs : sx_So K (p + d + 1)) (hd : sx_Del p d K K') : sx_So K' (p + d) := by
  obtain ⟨a1, a2⟩ := hd
  intro i j hij hj
  by_cases ei : i < p
  · rw [a1 i ei]
    by_cases ej : j < p
    · rw [a1 j ej]; exact hs i j hij (by omega)
    · rw [a2 j (by omega) hj]; exact hs i (j + 1) (by omega) (by omega)
  · rw [a2 i (by omega) (by omega), a2 j (by omega) hj]
    exact hs (i + 1) (j + 1) (by omega) (by omega)
/-- the same pairs behind an insertion here, an appending there -/
theorem sx_Eq_ins {K V A B K' V' : Nat → Int32} {x y : Int32} {p d : Nat} (he : sx_Eq (p + d) K V A B) (hk : sx_Ins p d x K K') (hv : sx_Ins p d y V V') : sx_Eq (p + d + 1) K' V' (upd A (p + d) x) (upd B (p + d) y) := by
  intro P
  have c : sx_cn P (upd A (p + d) x) (upd B (p + d) y) (p + d) = sx_cn P A B (p + d) := sx_cn_congr P (p + d) (fun j hj => sx_un (by omega)) (fun j hj => sx_un (by omega))
  have g := sx_cn_ins P hk.1 hv.1 hk.2.1 hv.2.1 (p + d) (by omega) hk.2.2.1 hv.2.2.1
  rw [g, sx_s, sx_us, sx_us, c, he P]
/-- the same pairs behind a removal here, the last pair's move there -/
theorem sx_Eq_del {K V A B K' V' : Nat → Int32} {p d q : Nat} (he : sx_Eq (p + d + 1) K V A B) (hk : sx_Del p d K K') (hv : sx_Del p d V V') (hq : q ≤ p + d) (ek : A q = K p) (ev : B q = V p) :
    sx_Eq (p + d) K' V' (upd A q (A (p + d))) (upd B q (B (p + d))) := by
  intro P
  have e := he P
  have f := sx_cn_drop P (a := A) (b := B) hq
  have g := sx_cn_ins P (a := K') (b := V') (a' := K) (b' := V) (p := p) (fun j hj => (hk.1 j hj).symm) (fun j hj => (hv.1 j hj).symm) rfl rfl (p + d) (by omega)
    (fun j h1 h2 => (hk.2 j h1 h2).symm) (fun j h1 h2 => (hv.2 j h1 h2).symm)
  rw [ek, ev] at f
  omega
end
section
section
variable {x1 x2 f_cap : Int32} {K V : Nat → Int32} {n p : Nat}
/-- the component's search, in insert -/
theorem sw_xi {post : Int32 → SX → Prop} (hn : n ≤ 12) (hp : p ≤ n) (hlo : ∀ j, j < p → K j < x1) (hhi : p < n → x1 ≤ K p) (h : wX_insert_26 post x1 x2 (nI p) f_cap (nI n) K V) :
    ∀ d i, i + d = p → wX_insert_2 post x1 x2 f_cap (nI n) K V (d + 1) (nI i) := by
  intro d
  induction d with
  | zero =>
    intro i hi
    have e : i = p := by omega
    subst e
    by_cases hl : i < n
    · have c : x1 ≤ K (nI i).toNatClampNeg := by rw [nI_clamp (by omega)]; exact hhi hl
      exact br_f (nI_ge hl (by omega)) ⟨vp_in_nI (by omega) (by omega), br_t c h⟩
    · exact br_t (nI_le (by omega) (by omega)) h
  | succ d ih =>
    intro i hi
    have c : ¬ x1 ≤ K (nI i).toNatClampNeg := by rw [nI_clamp (by omega), Int32.not_le]; exact hlo i (by omega)
    exact br_f (nI_ge (by omega) (by omega)) ⟨vp_in_nI (by omega) (by omega), br_f c (nm_r (nI_1 i) (ih (i + 1) (by omega)))⟩
/-- the component's search, in remove -/
theorem sw_xr {post : Int32 → SX → Prop} (hn : n ≤ 12) (hp : p ≤ n) (hlo : ∀ j, j < p → K j < x1) (hhi : p < n → x1 ≤ K p) (h : wX_remove_26 post x1 (nI p) f_cap (nI n) K V) :
    ∀ d i, i + d = p → wX_remove_2 post x1 f_cap (nI n) K V (d + 1) (nI i) := by
  intro d
  induction d with
  | zero =>
    intro i hi
    have e : i = p := by omega
    subst e
    by_cases hl : i < n
    · have c : x1 ≤ K (nI i).toNatClampNeg := by rw [nI_clamp (by omega)]; exact hhi hl
      exact br_f (nI_ge hl (by omega)) ⟨vp_in_nI (by omega) (by omega), br_t c h⟩
    · exact br_t (nI_le (by omega) (by omega)) h
  | succ d ih =>
    intro i hi
    have c : ¬ x1 ≤ K (nI i).toNatClampNeg := by rw [nI_clamp (by omega), Int32.not_le]; exact hlo i (by omega)
    exact br_f (nI_ge (by omega) (by omega)) ⟨vp_in_nI (by omega) (by omega), br_f c (nm_r (nI_1 i) (ih (i + 1) (by omega)))⟩
/-- the component's search, in seek -/
theorem sw_xs {post : Int32 → Prop} (hn : n ≤ 12) (hp : p ≤ n) (hlo : ∀ j, j < p → K j < x1) (hhi : p < n → x1 ≤ K p) (h : post (nI p)) :
    ∀ d i, i + d = p → wX_seek_2 post x1 f_cap (nI n) K V (d + 1) (nI i) := by
  intro d
  induction d with
  | zero =>
    intro i hi
    have e : i = p := by omega
    subst e
    by_cases hl : i < n
    · have c : x1 ≤ K (nI i).toNatClampNeg := by rw [nI_clamp (by omega)]; exact hhi hl
      exact br_f (nI_ge hl (by omega)) ⟨vp_in_nI (by omega) (by omega), br_t c h⟩
    · exact br_t (nI_le (by omega) (by omega)) h
  | succ d ih =>
    intro i hi
    have c : ¬ x1 ≤ K (nI i).toNatClampNeg := by rw [nI_clamp (by omega), Int32.not_le]; exact hlo i (by omega)
    exact br_f (nI_ge (by omega) (by omega)) ⟨vp_in_nI (by omega) (by omega), br_f c (nm_r (nI_1 i) (ih (i + 1) (by omega)))⟩
theorem sw_m1 (i : Nat) : nI (i + 1) + (-1) = nI i := by
  rw [nI_succ, Int32.add_assoc]
  show nI i + (1 + -1) = nI i
  rw [show (1 : Int32) + -1 = 0 from by decide, Int32.add_zero]
/-- the component's shift and store, in insert -/
theorem sw_x65 {post : Int32 → SX → Prop} (hn : n < 12) :
    ∀ d a b, p + d ≤ n → (∀ a' b', sx_Ins p d x1 a a' → sx_Ins p d x2 b b' → post 0 (f_cap, nI (n + 1), a', b')) → wX_insert_65 post x1 x2 (nI p) f_cap (nI n) (d + 1) (nI (p + d)) a b := by
  intro d
  induction d with
  | zero =>
    intro a b hd h
    have hi : vp_in (nI p) 12 := vp_in_nI (by omega) (by omega)
    have c : (nI p).toNatClampNeg = p := nI_clamp (by omega)
    have ea : upd a (nI p).toNatClampNeg x1 = upd a p x1 := by rw [c]
    have eb : upd b (nI p).toNatClampNeg x2 = upd b p x2 := by rw [c]
    exact br_t (nI_le (by omega) (by omega)) ⟨hi, nm_r ea ⟨hi, nm_r eb (nm_r (nI_1 n) (h _ _ (sx_Ins_0 p x1 a) (sx_Ins_0 p x2 b)))⟩⟩
  | succ d ih =>
    intro a b hd h
    have hi : vp_in (nI (p + (d + 1))) 12 := vp_in_nI (by omega) (by omega)
    have hj : vp_in (nI (p + (d + 1)) - 1) 12 := by
      rw [show p + (d + 1) = (p + d) + 1 from rfl, nI_pred]; exact vp_in_nI (by omega) (by omega)
    have c1 : (nI (p + (d + 1))).toNatClampNeg = p + d + 1 := nI_clamp (by omega)
    have c0 : (nI (p + (d + 1)) - 1).toNatClampNeg = p + d := by
      rw [show p + (d + 1) = (p + d) + 1 from rfl, nI_pred]; exact nI_clamp (by omega)
    have ea : upd a (nI (p + (d + 1))).toNatClampNeg (a (nI (p + (d + 1)) - 1).toNatClampNeg) = upd a (p + d + 1) (a (p + d)) := by rw [c1, c0]
    have eb : upd b (nI (p + (d + 1))).toNatClampNeg (b (nI (p + (d + 1)) - 1).toNatClampNeg) = upd b (p + d + 1) (b (p + d)) := by rw [c1, c0]
    exact br_f (nI_ge (by omega) (by omega)) ⟨hj, hi, nm_r ea ⟨hj, hi, nm_r eb (nm_r (sw_m1 (p + d)) (ih _ _ (by omega) (fun a' b' qa qb => h a' b' (sx_Ins_s qa) (sx_Ins_s qb))))⟩⟩
/-- the component's shift, in remove -/
theorem sw_x48 {post : Int32 → SX → Prop} {m : Nat} (hm : m < 12) :
    ∀ d i a b, i + d = m → (∀ a' b', sx_Del i d a a' → sx_Del i d b b' → post 0 (f_cap, nI m, a', b')) → wX_remove_48 post f_cap (nI (m + 1)) (d + 1) (nI i) a b := by
  intro d
  induction d with
  | zero =>
    intro i a b hd h
    have e : i = m := by omega
    subst e
    have hi : vp_in (nI i) 12 := vp_in_nI (by omega) (by omega)
    have c : (nI i).toNatClampNeg = i := nI_clamp (by omega)
    have ea : upd a (nI i).toNatClampNeg 0 = upd a i 0 := by rw [c]
    have eb : upd b (nI i).toNatClampNeg 0 = upd b i 0 := by rw [c]
    have hl : nI (i + 1) - 1 ≤ nI i := by rw [nI_pred]; exact nI_le (by omega) (by omega)
    exact br_t hl (nm_r (nI_pred i) ⟨hi, nm_r ea ⟨hi, nm_r eb (h _ _ (sx_Del_0 i 0 a) (sx_Del_0 i 0 b))⟩⟩)
  | succ d ih =>
    intro i a b hd h
    have hi : vp_in (nI i) 12 := vp_in_nI (by omega) (by omega)
    have hj : vp_in (nI i + 1) 12 := by rw [nI_1]; exact vp_in_nI (by omega) (by omega)
    have c0 : (nI i).toNatClampNeg = i := nI_clamp (by omega)
    have c1 : (nI i + 1).toNatClampNeg = i + 1 := by rw [nI_1]; exact nI_clamp (by omega)
    have ea : upd a (nI i).toNatClampNeg (a (nI i + 1).toNatClampNeg) = upd a i (a (i + 1)) := by rw [c1, c0]
    have eb : upd b (nI i).toNatClampNeg (b (nI i + 1).toNatClampNeg) = upd b i (b (i + 1)) := by rw [c1, c0]
    have hl : ¬ nI (m + 1) - 1 ≤ nI i := by rw [nI_pred]; exact nI_ge (by omega) (by omega)
    exact br_f hl ⟨hj, hi, nm_r ea ⟨hj, hi, nm_r eb (nm_r (nI_1 i) (ih (i + 1) _ _ (by omega) (fun a' b' qa qb => h a' b' (sx_Del_s qa) (sx_Del_s qb))))⟩⟩
end
section
variable {x1 x2 f_lim : Int32} {A B : Nat → Int32} {n q : Nat}
/-- the reference's scan, in insert: key found -/
theorem sw_yi1 {post : Int32 → SY → Prop} (hn : n ≤ 12) (hq : q < n) (hf : A q = x1) (hb : ∀ j, j < q → ¬ A j = x1) (h : post 1 (f_lim, nI n, A, B)) :
    ∀ d i, i + d = q → wY_insert_2 post x1 x2 f_lim (nI n) A B (d + 1) (nI i) := by
  intro d
  induction d with
  | zero =>
    intro i hi
    have e : i = q := by omega
    subst e
    have c : A (nI i).toNatClampNeg = x1 := by rw [nI_clamp (by omega)]; exact hf
    exact br_f (nI_ge hq (by omega)) ⟨vp_in_nI (by omega) (by omega), br_t c h⟩
  | succ d ih =>
    intro i hi
    have c : ¬ A (nI i).toNatClampNeg = x1 := by rw [nI_clamp (by omega)]; exact hb i (by omega)
    exact br_f (nI_ge (by omega) (by omega)) ⟨vp_in_nI (by omega) (by omega), br_f c (nm_r (nI_1 i) (ih (i + 1) (by omega)))⟩
/-- the reference's scan, in insert: key absent -/
theorem sw_yi0 {post : Int32 → SY → Prop} {c : Nat} (hc : c ≤ 12) (hn : n ≤ c) (hb : ∀ j, j < n → ¬ A j = x1) (hF : n = c → post 2 (nI c, nI n, A, B))
    (hO : n < c → post 0 (nI c, nI (n + 1), upd A n x1, upd B n x2)) :
    ∀ d i, i + d = n → wY_insert_2 post x1 x2 (nI c) (nI n) A B (d + 1) (nI i) := by
  intro d
  induction d with
  | zero =>
    intro i hi
    have e : i = n := by omega
    subst e
    refine br_t (nI_le (by omega) (by omega)) ?_
    by_cases f : i = c
    · exact br_t (by rw [f]) (hF f)
    · have g : ¬ nI i = nI c := by rw [nI_eq (by omega) (by omega)]; exact f
      have hi : vp_in (nI i) 12 := vp_in_nI (by omega) (by omega)
      have cl : (nI i).toNatClampNeg = i := nI_clamp (by omega)
      have ea : upd A (nI i).toNatClampNeg x1 = upd A i x1 := by rw [cl]
      have eb : upd B (nI i).toNatClampNeg x2 = upd B i x2 := by rw [cl]
      exact br_f g ⟨hi, nm_r ea ⟨hi, nm_r eb (nm_r (nI_1 i) (hO (by omega)))⟩⟩
  | succ d ih =>
    intro i hi
    have c : ¬ A (nI i).toNatClampNeg = x1 := by rw [nI_clamp (by omega)]; exact hb i (by omega)
    exact br_f (nI_ge (by omega) (by omega)) ⟨vp_in_nI (by omega) (by omega), br_f c (nm_r (nI_1 i) (ih (i + 1) (by omega)))⟩
/-- the reference's scan, in remove: key absent -/
theorem sw_yr0 {post : Int32 → SY → Prop} (hn : n ≤ 12) (hb : ∀ j, j < n → ¬ A j = x1) (h : post 3 (f_lim, nI n, A, B)) :
    ∀ d i, i + d = n → wY_remove_2 post x1 f_lim (nI n) A B (d + 1) (nI i) := by
  intro d
  induction d with
  | zero =>
    intro i hi
    have e : i = n := by omega
    subst e
    exact br_t (nI_le (by omega) (by omega)) h
  | succ d ih =>
    intro i hi
    have c : ¬ A (nI i).toNatClampNeg = x1 := by rw [nI_clamp (by omega)]; exact hb i (by omega)
    exact br_f (nI_ge (by omega) (by omega)) ⟨vp_in_nI (by omega) (by omega), br_f c (nm_r (nI_1 i) (ih (i + 1) (by omega)))⟩
/-- the reference's scan, in remove: key found -/
theorem sw_yr1 {post : Int32 → SY → Prop} {m : Nat} (hm : m < 12) (hq : q ≤ m) (hf : A q = x1) (hb : ∀ j, j < q → ¬ A j = x1) (h : post 0 (f_lim, nI m, upd A q (A m), upd B q (B m))) :
    ∀ d i, i + d = q → wY_remove_2 post x1 f_lim (nI (m + 1)) A B (d + 1) (nI i) := by
  intro d
  induction d with
  | zero =>
    intro i hi
    have e : i = q := by omega
    subst e
    have c0 : (nI i).toNatClampNeg = i := nI_clamp (by omega)
    have c : A (nI i).toNatClampNeg = x1 := by rw [c0]; exact hf
    have c1 : (nI (m + 1) - 1).toNatClampNeg = m := by rw [nI_pred]; exact nI_clamp (by omega)
    have hi : vp_in (nI i) 12 := vp_in_nI (by omega) (by omega)
    have hj : vp_in (nI (m + 1) - 1) 12 := by rw [nI_pred]; exact vp_in_nI (by omega) (by omega)
    have ea : upd A (nI i).toNatClampNeg (A (nI (m + 1) - 1).toNatClampNeg) = upd A i (A m) := by rw [c1, c0]
    have eb : upd B (nI i).toNatClampNeg (B (nI (m + 1) - 1).toNatClampNeg) = upd B i (B m) := by rw [c1, c0]
    exact br_f (nI_ge (by omega) (by omega)) ⟨hi, br_t c ⟨hj, hi, nm_r ea ⟨hj, hi, nm_r eb (nm_r (nI_pred m) h)⟩⟩⟩
  | succ d ih =>
    intro i hi
    have c : ¬ A (nI i).toNatClampNeg = x1 := by rw [nI_clamp (by omega)]; exact hb i (by omega)
    exact br_f (nI_ge (by omega) (by omega)) ⟨vp_in_nI (by omega) (by omega), br_f c (nm_r (nI_1 i) (ih (i + 1) (by omega)))⟩
/-- the reference's count of smaller keys -/
theorem sw_ys {post : Int32 → Prop} (hn : n ≤ 12) (h : post (nI (sx_rk x1 A B n))) :
    ∀ d i, i + d = n → wY_seek_4 post x1 f_lim (nI n) A B (d + 1) (nI (sx_rk x1 A B i)) (nI i) := by
  intro d
  induction d with
  | zero =>
    intro i hi
    have e : i = n := by omega
    subst e
    exact br_t (nI_le (by omega) (by omega)) h
  | succ d ih =>
    intro i hi
    have I := ih (i + 1) (by omega)
    have c0 : (nI i).toNatClampNeg = i := nI_clamp (by omega)
    refine br_f (nI_ge (by omega) (by omega)) ⟨vp_in_nI (by omega) (by omega), ?_⟩
    by_cases l : A i < x1
    · have c : ¬ x1 ≤ A (nI i).toNatClampNeg := by rw [c0, Int32.not_le]; exact l
      rw [sx_rk_t l] at I
      exact br_f c (nm_r (nI_1 _) (nm_r (nI_1 i) I))
    · have c : x1 ≤ A (nI i).toNatClampNeg := by rw [c0]; exact Int32.not_lt.mp l
      rw [sx_rk_f l] at I
      exact br_t c (nm_r (nI_1 i) I)
theorem sw_ySeek {post : Int32 → Prop} (hn : n ≤ 12) (h : post (nI (sx_rk x1 A B n))) : wpY_seek post (f_lim, nI n, A, B) x1 :=
  Exists.intro (n + 1) (sw_ys hn h n 0 (by omega))
/-- the reference's read: the entry of rank p is at q -/
theorem sw_yd {post : Int32 → Prop} {p : Nat} (hn : n ≤ 12) (hp : p < n) (hq : q < n) (hf : sx_rk (A q) A B n = p) (hb : ∀ j, j < q → ¬ sx_rk (A j) A B n = p)
    (h : (x2 = 0 → post (A q)) ∧ (¬ x2 = 0 → ((x2 = 1 → post (B q)) ∧ (¬ x2 = 1 → post 0)))) :
    ∀ d i, i + d = q → wY_read_16 post (nI p) x2 f_lim (nI n) A B (d + 1) (nI i) := by
  intro d
  induction d with
  | zero =>
    intro i hi
    have e : i = q := by omega
    subst e
    have c0 : (nI i).toNatClampNeg = i := nI_clamp (by omega)
    have hv : vp_in (nI i) 12 := vp_in_nI (by omega) (by omega)
    refine br_f (nI_ge (by omega) (by omega)) ⟨hv, sw_ySeek hn ?_⟩
    refine br_t (by rw [c0, hf]) ?_
    rw [c0]
    exact ⟨fun c => ⟨hv, h.1 c⟩, fun c => ⟨fun c' => ⟨hv, (h.2 c).1 c'⟩, fun c' => (h.2 c).2 c'⟩⟩
  | succ d ih =>
    intro i hi
    have c0 : (nI i).toNatClampNeg = i := nI_clamp (by omega)
    have hv : vp_in (nI i) 12 := vp_in_nI (by omega) (by omega)
    refine br_f (nI_ge (by omega) (by omega)) ⟨hv, sw_ySeek hn ?_⟩
    have l := sx_rk_le (A i) A B n
    refine br_f (by rw [c0, nI_eq (by omega) (by omega)]; exact hb i (by omega)) ?_
    exact nm_r (nI_1 i) (ih (i + 1) (by omega))
end
end
section
/-- one capacity, one count; the component's keys strictly increasing; the same pairs on both sides, as often -/
def i_Rel (_ : Nat) (u : SX) (v : SY) : Prop := ∃ (c n : Nat) (K V A B : Nat → Int32), u = (nI c, nI n, K, V) ∧ v = (nI c, nI n, A, B) ∧ c ≤ 12 ∧ n ≤ c ∧ sx_So K n ∧ sx_Eq n K V A B
theorem i_up {k : Nat} {u : SX} {v : SY} (h : i_Rel k u v) : i_Rel (k + 3) u v := h
theorem so_0 (k : Nat) {c : Nat} (hc : c ≤ 12) : i_Rel k (nI c, 0, (fun _ => 0), (fun _ => 0)) (nI c, 0, (fun _ => 0), (fun _ => 0)) :=
  ⟨c, 0, fun _ => 0, fun _ => 0, fun _ => 0, fun _ => 0, rfl, rfl, hc, Nat.zero_le c, fun i j _ h => absurd h (Nat.not_lt_zero j), fun _ => rfl⟩
theorem i_vc0 (k0 : Int32) : wpX_init (fun u => wpY_init (fun v => i_Rel 1 u v) k0) k0 := by
  by_cases h0 : 0 ≤ k0
  · by_cases h12 : k0 ≤ 12
    · obtain ⟨c, hc, rfl⟩ := nI_of2 (x := k0) (M := 12) (n := 12) (by decide) (Int32.not_lt.mpr h0) h12
      exact br_t h0 (br_t h12 (br_t h0 (br_t h12 (so_0 1 hc))))
    · exact br_t h0 (br_f h12 (br_t h0 (br_f h12 (so_0 1 (c := 12) (by omega)))))
  · exact br_f h0 (br_t (by decide) (br_f h0 (so_0 1 (c := 0) (by omega))))
/-- where the component finds the key, the reference finds it too, first at q, with the same value -/
theorem so_first {n : Nat} {K V A B : Nat → Int32} {p : Nat} (hs : sx_So K n) (he : sx_Eq n K V A B) (hp : p < n) : ∃ q, q < n ∧ A q = K p ∧ B q = V p ∧ ∀ j, j < q → ¬ A j = K p := by
  obtain ⟨t, ht, e1, -⟩ := sx_mem (sx_Eq_symm he) hp
  obtain ⟨q, hq, f, b⟩ := sx_least (fun j => A j = K p) t e1
  have f : A q = K p := f
  obtain ⟨i, hi, g1, g2⟩ := sx_mem he (j := q) (by omega)
  have r1 := sx_rk_so (V := V) hs hi
  have r2 := sx_rk_so (V := V) hs hp
  rw [g1, f, r2] at r1
  subst r1
  exact ⟨q, by omega, f, g2.symm, b⟩
theorem so_none {n : Nat} {K V A B : Nat → Int32} {x : Int32} {p : Nat} (hs : sx_So K n) (he : sx_Eq n K V A B) (h1 : ∀ j, j < p → K j < x) (h2 : p < n → x ≤ K p) (h : ¬ (p < n ∧ K p = x)) : ∀ j, j < n → ¬ A j = x := by
  intro j hj e
  obtain ⟨i, hi, g, -⟩ := sx_mem he hj
  have f : K i = x := g.trans e
  have o := sx_only hs h1 h2 hi f
  subst o
  exact h ⟨hi, f⟩
theorem so_x26 {post : Int32 → SX → Prop} {x1 x2 f_cap : Int32} {K V : Nat → Int32} {n p : Nat} (hn : n ≤ 12) (hp : p ≤ n) (h : ¬ (p < n ∧ K p = x1)) (g : wX_insert_46 post x1 x2 (nI p) f_cap (nI n) K V) : wX_insert_26 post x1 x2 (nI p) f_cap (nI n) K V := by
  by_cases l : p < n
  · have c : ¬ K (nI p).toNatClampNeg = x1 := by rw [nI_clamp (by omega)]; exact fun e => h ⟨l, e⟩
    exact br_f (nI_ge l (by omega)) ⟨vp_in_nI (by omega) (by omega), br_f c g⟩
  · exact br_t (nI_le (by omega) (by omega)) g
theorem i_vc_insert {k : Nat} {u : SX} {v : SY} (I : i_Rel k u v) (hk : k + 3 ≤ 1537) (v1 : Int32) (v2 : Int32) : wpX_insert (fun r u' => wpY_insert (fun r' v' => r' = r ∧ i_Rel (k + 3) u' v') v v1 v2) u v1 v2 := by
  have I0 := I
  obtain ⟨c, n, K, V, A, B, rfl, rfl, hc, hn, hs, he⟩ := I
  obtain ⟨p, hp, h1, h2⟩ := sx_find K v1 n
  refine Exists.intro (p + 1) (sw_xi (by omega) hp h1 h2 ?_ p 0 (by omega))
  by_cases hd : p < n ∧ K p = v1
  · obtain ⟨q, hq, f, -, b⟩ := so_first hs he hd.1
    rw [hd.2] at f b
    have cl : K (nI p).toNatClampNeg = v1 := by rw [nI_clamp (by omega)]; exact hd.2
    exact br_f (nI_ge hd.1 (by omega)) ⟨vp_in_nI (by omega) (by omega), br_t cl (Exists.intro (q + 1) (sw_yi1 (by omega) hq f b ⟨rfl, I0⟩ q 0 (by omega)))⟩
  · have N := so_none hs he h1 h2 hd
    refine so_x26 (by omega) hp hd ?_
    by_cases hl : n < c
    · obtain ⟨d, rfl⟩ : ∃ d, n = p + d := ⟨n - p, by omega⟩
      refine br_t (nI_lt hl (by omega)) ⟨d + 1, sw_x65 (by omega) d K V (Nat.le_refl _) (fun K' V' hK hV => ?_)⟩
      refine Exists.intro (p + d + 1) (sw_yi0 hc hn N (fun e => absurd e (by omega)) (fun _ => ⟨rfl, ?_⟩) (p + d) 0 (by omega))
      exact ⟨c, p + d + 1, K', V', _, _, rfl, rfl, hc, hl, sx_So_ins hs h1 h2 (fun l e => hd ⟨l, e⟩) hK, sx_Eq_ins he hK hV⟩
    · exact br_f (nI_nlt (by omega) (by omega)) (Exists.intro (n + 1) (sw_yi0 hc hn N (fun _ => ⟨rfl, I0⟩) (fun e => absurd e hl) n 0 (by omega)))
theorem i_vc_remove {k : Nat} {u : SX} {v : SY} (I : i_Rel k u v) (hk : k + 3 ≤ 1537) (v1 : Int32) : wpX_remove (fun r u' => wpY_remove (fun r' v' => r' = r ∧ i_Rel (k + 3) u' v') v v1) u v1 := by
  have I0 := I
  obtain ⟨c, n, K, V, A, B, rfl, rfl, hc, hn, hs, he⟩ := I
  obtain ⟨p, hp, h1, h2⟩ := sx_find K v1 n
  refine Exists.intro (p + 1) (sw_xr (by omega) hp h1 h2 ?_ p 0 (by omega))
  by_cases hd : p < n ∧ K p = v1
  · obtain ⟨q, hq, f, g, b⟩ := so_first hs he hd.1
    have f' := f
    rw [hd.2] at f' b
    have cl : K (nI p).toNatClampNeg = v1 := by rw [nI_clamp (by omega)]; exact hd.2
    have lt := hd.1
    obtain ⟨d, rfl⟩ : ∃ d, n = p + d + 1 := ⟨n - p - 1, by omega⟩
    refine br_f (nI_ge hd.1 (by omega)) ⟨vp_in_nI (by omega) (by omega), br_t cl ⟨d + 1, sw_x48 (by omega) d p K V rfl (fun K' V' hK hV => ?_)⟩⟩
    refine Exists.intro (q + 1) (sw_yr1 (by omega) (by omega) f' b ⟨rfl, ?_⟩ q 0 (by omega))
    exact ⟨c, p + d, K', V', _, _, rfl, rfl, hc, by omega, sx_So_del hs hK, sx_Eq_del he hK hV (by omega) f g⟩
  · have N := so_none hs he h1 h2 hd
    by_cases l : p < n
    · have cl : ¬ K (nI p).toNatClampNeg = v1 := by rw [nI_clamp (by omega)]; exact fun e => hd ⟨l, e⟩
      exact br_f (nI_ge l (by omega)) ⟨vp_in_nI (by omega) (by omega), br_f cl (Exists.intro (n + 1) (sw_yr0 (by omega) N ⟨rfl, I0⟩ n 0 (by omega)))⟩
    · exact br_t (nI_le (by omega) (by omega)) (Exists.intro (n + 1) (sw_yr0 (by omega) N ⟨rfl, I0⟩ n 0 (by omega)))
theorem i_vc_seek {k : Nat} {u : SX} {v : SY} (I : i_Rel k u v) (hk : k + 3 ≤ 1537) (v1 : Int32) : wpX_seek (fun r => wpY_seek (fun r' => r' = r ∧ i_Rel (k + 3) u v) v v1) u v1 := by
  have I0 := I
  obtain ⟨c, n, K, V, A, B, rfl, rfl, hc, hn, hs, he⟩ := I
  obtain ⟨p, hp, h1, h2⟩ := sx_find K v1 n
  have e : sx_rk v1 A B n = p := (sx_rk_eq he v1).trans (sx_rk_p n p hp h1 (sx_hi hs h2))
  refine Exists.intro (p + 1) (sw_xs (by omega) hp h1 h2 ?_ p 0 (by omega))
  refine sw_ySeek (by omega) ?_
  exact ⟨congrArg nI e, I0⟩
theorem so_yd {post : Int32 → Prop} {x2 f_lim : Int32} {n p : Nat} {K V A B : Nat → Int32} (hn : n ≤ 12) (hs : sx_So K n) (he : sx_Eq n K V A B) (hp : p < n)
    (h : (x2 = 0 → post (K p)) ∧ (¬ x2 = 0 → ((x2 = 1 → post (V p)) ∧ (¬ x2 = 1 → post 0)))) : wpY_read post (f_lim, nI n, A, B) (nI p) x2 := by
  have rk : ∀ j, j < n → ∃ i, i < n ∧ K i = A j ∧ V i = B j ∧ sx_rk (A j) A B n = i := by
    intro j hj
    obtain ⟨i, hi, g1, g2⟩ := sx_mem he hj
    refine ⟨i, hi, g1, g2, ?_⟩
    rw [sx_rk_eq he, ← g1]
    exact sx_rk_so hs hi
  obtain ⟨t, ht, e1, -⟩ := sx_mem (sx_Eq_symm he) hp
  have et : sx_rk (A t) A B n = p := by
    rw [sx_rk_eq he, e1]
    exact sx_rk_so hs hp
  obtain ⟨q, hq, f, b⟩ := sx_least (fun j => sx_rk (A j) A B n = p) t et
  obtain ⟨i, hi, g1, g2, g3⟩ := rk q (by omega)
  have ei : i = p := g3.symm.trans f
  subst ei
  rw [g1, g2] at h
  exact br_f (nI_pos (by omega)) (br_t (nI_lt hp (by omega)) ⟨q + 1, sw_yd hn hp (by omega) f b h q 0 (by omega)⟩)
theorem i_vc_read {k : Nat} {u : SX} {v : SY} (I : i_Rel k u v) (hk : k + 3 ≤ 1537) (v1 : Int32) (v2 : Int32) : wpX_read (fun r => wpY_read (fun r' => r' = r ∧ i_Rel (k + 3) u v) v v1 v2) u v1 v2 := by
  have I0 := I
  obtain ⟨c, n, K, V, A, B, rfl, rfl, hc, hn, hs, he⟩ := I
  by_cases h0 : v1 < 0
  · exact br_t h0 (br_t h0 ⟨rfl, I0⟩)
  · obtain ⟨p, hp, rfl⟩ := nI_of h0
    by_cases hl : p < n
    · have g : nI p < nI n := nI_lt hl (by omega)
      have cl : (nI p).toNatClampNeg = p := nI_clamp hp
      have hv : vp_in (nI p) 12 := vp_in_nI (by omega) (by omega)
      refine br_f h0 (br_t g ?_)
      rw [cl]
      by_cases c0 : v2 = 0
      · exact br_t c0 ⟨hv, so_yd (by omega) hs he hl (br_t c0 ⟨rfl, I0⟩)⟩
      · by_cases c1 : v2 = 1
        · exact br_f c0 (br_t c1 ⟨hv, so_yd (by omega) hs he hl (br_f c0 (br_t c1 ⟨rfl, I0⟩))⟩)
        · exact br_f c0 (br_f c1 (so_yd (by omega) hs he hl (br_f c0 (br_f c1 ⟨rfl, I0⟩))))
    · have g : ¬ nI p < nI n := by rw [nI_ltI hp (by omega)]; exact hl
      exact br_f h0 (br_f g (br_f h0 (br_f g ⟨rfl, I0⟩)))
theorem i_vc_count {k : Nat} {u : SX} {v : SY} (I : i_Rel k u v) (hk : k + 3 ≤ 1537) : wpX_count (fun r => wpY_count (fun r' => r' = r ∧ i_Rel (k + 3) u v) v) u := by
  have I0 := I
  obtain ⟨c, n, K, V, A, B, rfl, rfl, hc, hn, hs, he⟩ := I
  exact And.intro rfl I0
end
