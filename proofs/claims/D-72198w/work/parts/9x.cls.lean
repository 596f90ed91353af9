/-! PURE 54: classes of a single rule's bits -/
/-- one more bit x behind the bits b of a rule (m, n): is it met; what is kept -/
def bA (m n b x : Nat) : Bool := decide (m ≤ pop ((2 * b + x) % 2 ^ n))
def bN (n b x : Nat) : Nat := (2 * b + x) % 2 ^ n % 2 ^ (n - 1)
/-- when an alarm comes in the word w (0: never) -/
def bW (m n : Nat) : Nat → List Nat → Nat
  | _, [] => 0
  | b, x :: w => if bA m n b x then w.length + 1 else bW m n (bN n b x) w
def bC (m n b : Nat) : List Nat := [[0, 0, 0], [0, 0, 1], [0, 1, 0], [0, 1, 1], [1, 0, 0], [1, 0, 1], [1, 1, 0], [1, 1, 1]].map (bW m n b)
/-- bits of one class lead alike -/
def bOk (n m b b' x : Nat) : Bool := !(decide (1 ≤ n) && decide (1 ≤ m) && decide (bC m n b = bC m n b')) || (decide (bA m n b x = bA m n b' x) && (bA m n b x || decide (bC m n (bN n b x) = bC m n (bN n b' x))))
theorem bOk_all : ∀ n, n < 5 → ∀ m, m < 5 → ∀ b, b < 8 → ∀ b', b' < 8 → ∀ x, x < 2 → bOk n m b b' x = true := by decide +kernel
/-- how many classes there are among the bits that can stand there -/
def bT (n : Nat) : Nat := if n = 4 then 6 else if n = 3 then 3 else if n = 2 then 2 else 1
def bSet (m n : Nat) : List (List Nat) := (((List.range (2 ^ (n - 1))).filter (fun b => decide (pop b < m))).map (bC m n)).eraseDups
theorem bSet_len : ∀ n, n < 5 → ∀ m, m < 5 → 1 ≤ m → m ≤ n → (bSet m n).length ≤ bT n := by decide +kernel
def bPr (a b c : Nat) : Bool := !decide ((a - 1) + (b - 1) + (c - 1) ≤ 6) || decide (bT a * bT b * bT c ≤ 36)
theorem bPr_all : ∀ a, a < 5 → ∀ b, b < 5 → ∀ c, c < 5 → bPr a b c = true := by decide +kernel
