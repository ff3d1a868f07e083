/-! THE STEPS as plain things: whether one can be done (tb_p), what it makes (tb_r) -/
/-- a loop of at most N rounds, its head proved once -/
theorem am_lp {α : Type} (N : Nat) (I S : Nat → α → Prop) (hs : ∀ j x, j ≤ N → I j x → (j < N → ∀ x', I (j + 1) x' → S (j + 1) x') → S j x) : ∀ j x, j ≤ N → I j x → S j x := by
  intro j x hj
  obtain ⟨n, hn⟩ : ∃ n, j + n = N := ⟨N - j, by omega⟩
  induction n generalizing j x with
  | zero => exact fun hI => hs j x hj hI (fun h => by omega)
  | succ n ih => exact fun hI => hs j x hj hI (fun _ x' h' => ih (j + 1) x' (by omega) (by omega) h')
theorem tb_ic {α : Type} {p q : Prop} [Decidable p] [Decidable q] {a b : α} (h : p ↔ q) : (if p then a else b) = if q then a else b := by
  by_cases hp : p
  · rw [if_pos hp, if_pos (h.mp hp)]
  · rw [if_neg hp, if_neg (fun x => hp (h.mpr x))]
def tb_lk (f : tb_F) (n r s : Nat) : Prop := ∀ c, c < n → f r c = f s c
/-- no row ahead begins like r; none ahead has r's text -/
def tb_PB (f : tb_F) (n r : Nat) : Prop := ∀ q, q < r → ¬ tb_lk f n q r
def tb_PN (f : tb_F) (x r : Nat) : Prop := ∀ q, q < r → ¬ f q x = f r x
def tb_PK (f : tb_F) (x r : Nat) : Prop := f r x ≠ 0
def tb_fl (f : tb_F) (x : Nat) : Nat → Int64
  | 0 => f 0 x
  | r + 1 => if f (r + 1) x = 0 then tb_fl f x r else f (r + 1) x
def tb_sp (v : Int64) (y : Nat) : Option Nat := mx_find (tb_n v) (mx_mk y)
def tb_sl (v : Int64) (y : Nat) : Int64 := match tb_sp v y with
  | none => v
  | some i => lN (mx_pt (tb_n v) 0 i)
def tb_sr (v : Int64) (y : Nat) : Int64 := match tb_sp v y with
  | none => 0
  | some i => lN (mx_pt (tb_n v) (i + 1) (mx_nb (tb_n v)))
def tb_jn (v w : Int64) (y : Nat) : Int64 := lN ((tb_n v * 256 + mx_mk y) * 256 ^ mx_nb (tb_n w) + tb_n w)
def tb_jl (v w : Int64) : Nat := mx_nb (tb_n v) + 1 + mx_nb (tb_n w)
def tb_or (v : Int64) : Nat := tb_n v * 256 ^ (7 - mx_nb (tb_n v))
/-- where row r goes among the rows o 0 .. o (k - 1) -/
def tb_sk (f : tb_F) (x : Nat) (o : Nat → Nat) (r : Nat) : Nat → Nat
  | 0 => 0
  | k + 1 => if tb_or (f r x) < tb_or (f (o k) x) then tb_sk f x o r k else k + 1
def tb_od (f : tb_F) (x : Nat) : Nat → Nat → Nat
  | 0 => fun j => j
  | r + 1 => fun j => if j < tb_sk f x (tb_od f x r) r r then tb_od f x r j else if j = tb_sk f x (tb_od f x r) r r then r else tb_od f x r (j - 1)
def tb_S (f : tb_F) (x r : Nat) (w : Nat → Nat) : Nat → Nat
  | 0 => 0
  | n + 1 => tb_S f x r w n + if f n x = f r x then w n else 0
def tb_nu (f : tb_F) (y q : Nat) : Nat := mx_val (tb_n (f q y)) (mx_nb (tb_n (f q y)))
noncomputable def tb_V (f : tb_F) (k q r : Nat) : Nat → Int64
  | 0 => 0
  | n + 1 => @ite _ (f n k = f r k ∧ tb_lk f k n q) (Classical.propDecidable _) (f n (k + 1)) (tb_V f k q r n)
noncomputable def tb_G (R : Nat) (f : tb_F) (x : Nat) (w : Nat → Nat) : tb_T := ((tb_L (tb_PN f x) R).length, 2, fun j c => if c = 0 then f ((tb_L (tb_PN f x) R).getD j 0) x else lN (mx_tx (tb_S f x ((tb_L (tb_PN f x) R).getD j 0) w R)))
def tb_p (kd R C : Nat) (f : tb_F) (x y : Nat) : Prop := match kd with
  | 1 => R ≤ 6
  | 2 => 2 ≤ C
  | 3 => y < 4 ∧ C ≠ 6 ∧ ∃ r, r < R ∧ tb_sp (f r x) y ≠ none
  | 4 => ∃ r, r + 1 < R ∧ f (r + 1) x = 0 ∧ tb_fl f x r ≠ 0
  | 5 => y < 4 ∧ x + 1 < C ∧ ∀ r, r < R → tb_jl (f r x) (f r (x + 1)) ≤ 7
  | 6 => 1 ≤ x ∧ 2 ≤ R ∧ (R - 1) * (C - x) ≤ 12 ∧ x + 2 ≤ 6
  | 7 => 3 ≤ C ∧ (∀ r q, r < R → q < r → ¬ (f q (C - 2) = f r (C - 2) ∧ tb_lk f (C - 2) q r)) ∧ (tb_L (tb_PB f (C - 2)) R).length + 1 ≤ 12 ∧ C - 2 + (tb_L (tb_PN f (C - 2)) R).length ≤ 6
  | 8 => ∃ r, r < R ∧ tb_sk f x (tb_od f x r) r r < r
  | 9 => (tb_L (tb_PB f C) R).length < R
  | 10 => True
  | 11 => y < C ∧ x ≠ y ∧ (∀ r, r < R → mx_isN (tb_n (f r y))) ∧ ∀ r, r < R → tb_PN f x r → tb_S f x r (tb_nu f y) R ≤ 999999
  | 12 => 0 < (tb_L (tb_PK f x) R).length ∧ (tb_L (tb_PK f x) R).length < R
  | 13 => 2 ≤ R
  | _ => x + 1 < C
noncomputable def tb_r (kd R C : Nat) (f : tb_F) (x y : Nat) : tb_T := match kd with
  | 1 => (C, R, fun r c => f c r)
  | 2 => (R, C - 1, fun r c => f r (if c < x then c else c + 1))
  | 3 => (R, C + 1, fun r c => if c < x then f r c else if c = x then tb_sl (f r x) y else if c = x + 1 then tb_sr (f r x) y else f r (c - 1))
  | 4 => (R, C, fun r c => if c = x then tb_fl f x r else f r c)
  | 5 => (R, C - 1, fun r c => if c < x then f r c else if c = x then tb_jn (f r x) (f r (x + 1)) y else f r (c + 1))
  | 6 => ((R - 1) * (C - x), x + 2, fun q c => if c < x then f (q / (C - x) + 1) c else if c = x then f 0 (x + q % (C - x)) else f (q / (C - x) + 1) (x + q % (C - x)))
  | 7 => ((tb_L (tb_PB f (C - 2)) R).length + 1, C - 2 + (tb_L (tb_PN f (C - 2)) R).length, fun q c => if q = 0 then (if c < C - 2 then 0 else f ((tb_L (tb_PN f (C - 2)) R).getD (c - (C - 2)) 0) (C - 2)) else if c < C - 2 then f ((tb_L (tb_PB f (C - 2)) R).getD (q - 1) 0) c else tb_V f (C - 2) ((tb_L (tb_PB f (C - 2)) R).getD (q - 1) 0) ((tb_L (tb_PN f (C - 2)) R).getD (c - (C - 2)) 0) R)
  | 8 => (R, C, fun r c => f (tb_od f x R r) c)
  | 9 => ((tb_L (tb_PB f C) R).length, C, fun r c => f ((tb_L (tb_PB f C) R).getD r 0) c)
  | 10 => tb_G R f x (fun _ => 1)
  | 11 => tb_G R f x (tb_nu f y)
  | 12 => ((tb_L (tb_PK f x) R).length, C, fun r c => f ((tb_L (tb_PK f x) R).getD r 0) c)
  | 13 => (R - 1, C, fun r c => f (r + 1) c)
  | _ => (R, C, fun r c => f r (if c = x then x + 1 else if c = x + 1 then x else c))
def tb_ar (kd C x y : Nat) : Prop := (match kd with
  | 1 => x = 0 | 7 => x = 0 | 9 => x = 0 | 13 => x = 0 | _ => x < C) ∧ (match kd with
  | 3 => y < 4 | 5 => y < 4 | 11 => y < C | _ => y = 0)
def tb_am (kd C x y : Nat) : Prop := (match kd with
  | 1 => x = 0 | 7 => x = 0 | 9 => x = 0 | 13 => x = 0 | _ => x < C) ∧ (match kd with
  | 3 => y < 2 ^ 31 | 5 => y < 2 ^ 31 | 11 => y < 2 ^ 31 | _ => y = 0)
/-- a step of the component: the table at i, what it makes at n -/
abbrev tb_so (kd : Nat) : am_T := fun a σ k => ∃ (i n x y R C : Nat) (f : tb_F), a = [.inr (.inr (6, kd)), .inr (.inr (1, i)), .inl (nI x), .inl (nI y), .inr (.inr (1, n))] ∧ i ≠ n ∧ tb_c σ i R C f ∧ tb_tx R C f ∧ tb_ar kd C x y ∧ (∀ σ', tb_fc n σ σ' → tb_p kd R C f x y → tb_c σ' n (tb_r kd R C f x y).1 (tb_r kd R C f x y).2.1 (tb_r kd R C f x y).2.2 → k (.inl (some (.inl (nI 1)))) σ') ∧ (∀ σ', tb_fc n σ σ' → ¬ tb_p kd R C f x y → k (.inl (some (.inl (nI 0)))) σ')
/-- a step of the model: the table at p, what it makes at MADE -/
abbrev tb_sm (kd : Nat) (arg : Nat → Nat → Nat → List am_V) : am_T := fun a σ k => ∃ (p x y R C : Nat) (f : tb_F), a = .inr (.inr (4, 0)) :: arg C x y ∧ p < 10 ∧ σ.1 4 0 3 = nI p ∧ σ.1 4 0 4 = nI R ∧ tb_m σ p R C f ∧ tb_tx R C f ∧ tb_am kd C x y ∧ (∀ σ', tb_fm σ σ' → tb_p kd R C f x y → tb_m σ' 10 (tb_r kd R C f x y).1 (tb_r kd R C f x y).2.1 (tb_r kd R C f x y).2.2 → k (.inl (some (.inl (nI 1)))) σ') ∧ (∀ σ', tb_fm σ σ' → ¬ tb_p kd R C f x y → k (.inl (some (.inl (nI 0)))) σ')
