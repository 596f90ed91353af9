/-! PURE 83: sums; ways without an alarm: plain -/
def sumN (f : Nat → Nat) : Nat → Nat
  | 0 => 0
  | n + 1 => sumN f n + f n
theorem sumN_congr {f g : Nat → Nat} : ∀ {n : Nat}, (∀ j, j < n → f j = g j) → sumN f n = sumN g n
  | 0, _ => rfl
  | n + 1, h => by rw [sumN, sumN, sumN_congr (n := n) (fun j hj => h j (by omega)), h n (by omega)]
theorem sumN_add {f g : Nat → Nat} : ∀ {n : Nat}, sumN (fun j => f j + g j) n = sumN f n + sumN g n
  | 0 => rfl
  | n + 1 => by rw [sumN, sumN, sumN, sumN_add (n := n)]; omega
theorem sumN_mul {f : Nat → Nat} {c : Nat} : ∀ {n : Nat}, sumN (fun j => c * f j) n = c * sumN f n
  | 0 => rfl
  | n + 1 => by rw [sumN, sumN, sumN_mul (n := n), Nat.mul_add]
theorem sumN_mulr {f : Nat → Nat} {c : Nat} {n : Nat} : sumN (fun j => f j * c) n = sumN f n * c := by
  rw [Nat.mul_comm, ← sumN_mul]
  exact sumN_congr (fun j _ => Nat.mul_comm _ _)
theorem sumN_zero : ∀ {n : Nat}, sumN (fun _ => 0) n = 0
  | 0 => rfl
  | n + 1 => by rw [sumN, sumN_zero (n := n)]
theorem sumN_comm {f : Nat → Nat → Nat} {m : Nat} : ∀ {n : Nat}, sumN (fun i => sumN (fun j => f i j) m) n = sumN (fun j => sumN (fun i => f i j) n) m
  | 0 => by simp only [sumN]; exact sumN_zero.symm
  | n + 1 => by
    rw [sumN, sumN_comm (n := n), ← sumN_add]
    exact sumN_congr (fun j _ => rfl)
theorem sumN_le {f g : Nat → Nat} : ∀ {n : Nat}, (∀ j, j < n → f j ≤ g j) → sumN f n ≤ sumN g n
  | 0, _ => Nat.le_refl _
  | n + 1, h => Nat.add_le_add (sumN_le (n := n) (fun j hj => h j (by omega))) (h n (by omega))
theorem sumN_mono {f : Nat → Nat} {a b : Nat} (h : a ≤ b) : sumN f a ≤ sumN f b := by
  induction b with
  | zero => have : a = 0 := by omega
            subst this; exact Nat.le_refl _
  | succ b ih =>
    by_cases c : a = b + 1
    · subst c; exact Nat.le_refl _
    · rw [sumN]; have := ih (by omega); omega
/-- a sum with one place that counts -/
theorem sumN_one {f : Nat → Nat} {x : Nat} : ∀ {n : Nat}, x < n → (∀ j, j < n → j ≠ x → f j = 0) → sumN f n = f x
  | 0, h, _ => by omega
  | n + 1, h, hz => by
    rw [sumN]
    by_cases c : x = n
    · subst c
      have : sumN f x = sumN (fun _ => 0) x := sumN_congr (fun j hj => hz j (by omega) (by omega))
      rw [this, sumN_zero, Nat.zero_add]
    · rw [sumN_one (n := n) (by omega) (fun j hj => hz j (by omega)), hz n (by omega) (Ne.symm c), Nat.add_zero]
section D
variable {n : Nat} {stp : Nat → Nat → Option Nat} {ch f h : Nat → Nat}
/-- what state j gives to x by sign s -/
def cb (stp : Nat → Nat → Option Nat) (ch f : Nat → Nat) (j s x : Nat) : Nat := if stp j s = some x then f j * ch s else 0
def wN (n : Nat) (stp : Nat → Nat → Option Nat) (ch f : Nat → Nat) (x : Nat) : Nat := sumN (fun j => sumN (fun s => cb stp ch f j s x) 5) n
/-- where a sign leads is asked for h; an alarm has none -/
def hS (stp : Nat → Nat → Option Nat) (h : Nat → Nat) (j s : Nat) : Nat := match stp j s with
  | some x => h x
  | none => 0
theorem cb_sum (hlt : ∀ j s x, j < n → s < 5 → stp j s = some x → x < n) {j s : Nat} (hj : j < n) (hs : s < 5) : sumN (fun x => cb stp ch f j s x * h x) n = f j * ch s * hS stp h j s := by
  unfold hS
  cases e : stp j s with
  | none =>
    rw [Nat.mul_zero, ← sumN_zero (n := n)]
    exact sumN_congr (fun x _ => by unfold cb; rw [e, if_neg (by simp), Nat.zero_mul])
  | some y =>
    rw [sumN_one (hlt j s y hj hs e) (fun x _ hx => by unfold cb; rw [e, if_neg (fun z => hx (Option.some.inj z).symm), Nat.zero_mul])]
    unfold cb
    rw [e, if_pos rfl]
/-- ways forth against ways back -/
theorem wN_dual (hlt : ∀ j s x, j < n → s < 5 → stp j s = some x → x < n) : sumN (fun x => wN n stp ch f x * h x) n = sumN (fun j => f j * sumN (fun s => ch s * hS stp h j s) 5) n := by
  have e1 : ∀ x, wN n stp ch f x * h x = sumN (fun j => sumN (fun s => cb stp ch f j s x * h x) 5) n := fun x => by
    unfold wN
    rw [← sumN_mulr]
    exact sumN_congr (fun j _ => sumN_mulr.symm)
  rw [sumN_congr (fun x _ => e1 x), sumN_comm]
  refine sumN_congr (fun j hj => ?_)
  rw [sumN_comm, ← sumN_mul]
  exact sumN_congr (fun s hs => by rw [cb_sum hlt hj hs, Nat.mul_assoc])
/-- ways without an alarm, by where they lead -/
def wy (n : Nat) (stp : Nat → Nat → Option Nat) (ch : Nat → Nat) (j0 : Nat) : Nat → Nat → Nat
  | 0 => fun j => if j = j0 then 1 else 0
  | k + 1 => wN n stp ch (wy n stp ch j0 k)
/-- ways without an alarm, by where they begin -/
def nl (stp : Nat → Nat → Option Nat) (ch : Nat → Nat) : Nat → Nat → Nat
  | 0 => fun _ => 1
  | k + 1 => fun j => sumN (fun s => ch s * hS stp (nl stp ch k) j s) 5
theorem wy_nl (hlt : ∀ j s x, j < n → s < 5 → stp j s = some x → x < n) {j0 : Nat} (h0 : j0 < n) : ∀ i k, sumN (fun x => wy n stp ch j0 i x * nl stp ch k x) n = nl stp ch (i + k) j0
  | 0, k => by
    rw [sumN_one (x := j0) h0 (fun j _ hj => by show (if j = j0 then 1 else 0) * _ = 0; rw [if_neg hj, Nat.zero_mul])]
    show (if j0 = j0 then 1 else 0) * _ = _
    rw [if_pos rfl, Nat.one_mul, Nat.zero_add]
  | i + 1, k => by
    have := wy_nl hlt h0 i (k + 1)
    rw [show i + 1 + k = i + (k + 1) by omega, ← this]
    exact wN_dual hlt
theorem wy_sum (hlt : ∀ j s x, j < n → s < 5 → stp j s = some x → x < n) {j0 : Nat} (h0 : j0 < n) (k : Nat) : sumN (wy n stp ch j0 k) n = nl stp ch k j0 := by
  have := wy_nl (ch := ch) hlt h0 k 0
  rw [Nat.add_zero] at this
  rw [← this]
  exact sumN_congr (fun x _ => by show _ = _ * 1; rw [Nat.mul_one])
theorem nl_le (hc : sumN ch 5 = 10) : ∀ k j, nl stp ch k j ≤ 10 ^ k
  | 0, _ => Nat.le_refl _
  | k + 1, j => by
    show sumN (fun s => ch s * hS stp (nl stp ch k) j s) 5 ≤ _
    have h1 : sumN (fun s => ch s * hS stp (nl stp ch k) j s) 5 ≤ sumN (fun s => ch s * 10 ^ k) 5 := sumN_le (fun s _ => Nat.mul_le_mul_left _ (by
      unfold hS
      cases stp j s with
      | none => exact Nat.zero_le _
      | some x => exact nl_le hc k x))
    rw [sumN_mulr, hc] at h1
    rw [Nat.pow_succ]; omega
/-- rows with an alarm -/
def al (stp : Nat → Nat → Option Nat) (ch : Nat → Nat) : Nat → Nat → Nat
  | 0 => fun _ => 0
  | k + 1 => fun j => sumN (fun s => ch s * (match stp j s with
    | some x => al stp ch k x
    | none => 10 ^ k)) 5
theorem al_nl (hc : sumN ch 5 = 10) : ∀ k j, al stp ch k j + nl stp ch k j = 10 ^ k
  | 0, _ => rfl
  | k + 1, j => by
    show sumN _ 5 + sumN (fun s => ch s * hS stp (nl stp ch k) j s) 5 = _
    rw [← sumN_add]
    have : sumN (fun s => ch s * (match stp j s with | some x => al stp ch k x | none => 10 ^ k) + ch s * hS stp (nl stp ch k) j s) 5 = sumN (fun s => ch s * 10 ^ k) 5 := sumN_congr (fun s _ => by
      rw [← Nat.mul_add]
      congr 1
      unfold hS
      cases stp j s with
      | none => rfl
      | some x => exact al_nl hc k x)
    rw [this, sumN_mulr, hc, Nat.pow_succ]; omega
end D
theorem sum5 {l : List Nat} (h : l.length = 5) : sumN (fun s => l.getD s 0) 5 = l.sum := by
  match l, h with
  | [a, b, c, d, e], _ => simp [sumN]; omega
theorem gcd_half {a b : Nat} (hb : 0 < b) (hr : 0 < a % b) : b % (a % b) < (b + 1) / 2 := by
  have h1 := Nat.mod_lt a hb
  by_cases c : 2 * (a % b) ≤ b
  · have := Nat.mod_lt b hr
    omega
  · have : b % (a % b) = b - a % b := by
      rw [Nat.mod_eq_sub_mod (by omega), Nat.mod_eq_of_lt (by omega)]
    omega
