/-! what the methods of RunWatchModel compute (printed by gen/rec.py out of the decode rows) -/
/-! begin -/
def mL_begin_2 (N : Nat)   : Nat → Int32 → (Nat → Int32) → Option (Nat → Int32)
  | 0, _, _ => none
  | n + 1, l1, x_read =>
  if 17 ≤ l1 then (some (upd (upd (upd (upd (upd (upd (upd x_read 10 1) 11 2) 12 4) 13 2) 14 1) 15 1) 16 4))
  else ((gd l1 98).bind fun j2 => (mL_begin_2 N  n) (l1 + 1) (upd x_read j2 0))

def mF_begin (N : Nat)   (x_read : Nat → Int32) : Option (Nat → Int32) :=
  mL_begin_2 N N 0 x_read

/-! takeRead -/
def mL_takeRead_2 (N : Nat) (x_read : Nat → Int32)  : Nat → Int32 → (Nat → Int32) → Option (Nat → Int32)
  | 0, _, _ => none
  | n + 1, l1, x_now =>
  if 17 ≤ l1 then (some x_now)
  else ((gd l1 98).bind fun j2 => (gd l1 98).bind fun j4 => (mL_takeRead_2 N x_read n) (l1 + 1) (upd x_now j4 (x_read j2)))

def mF_takeRead (N : Nat) (x_read : Nat → Int32)  (x_now : Nat → Int32) : Option (Nat → Int32) :=
  mL_takeRead_2 N x_read N 0 x_now

/-! in -/
def mB_in_15 (N : Nat)   (s0 : Int32) : Option (Int32) :=
  if s0 = 0 ∨ s0 = 1 then some s0 else none

def mB_in_14 (N : Nat)    : Option (Int32) :=
  mB_in_15 N 0

def mF_in (N : Nat)  (a0 : Int32) (a1 : Int32) (a2 : Int32)  : Option (Int32) :=
  if a0 < a1 then (mB_in_14 N)
  else (if a2 < a0 then (mB_in_14 N)
  else (mB_in_15 N 1))

/-! type -/
def mF_type (N : Nat)  (a0 : Int32) (x_text : Nat → Int32) (x_letters : Int32) : Option (Int32 × (Nat → Int32) × Int32) :=
  (mF_in N a0 0 255).bind fun y1 => if y1 = 0 then (some ((-1), x_text, x_letters))
  else (if x_letters = 120 then (some ((-3), x_text, x_letters))
  else ((gd x_letters 120).bind fun j5 => some ((x_letters + 1), (upd x_text j5 a0), (x_letters + 1))))

/-! clear -/
def mF_clear (N : Nat)   (x_letters : Int32) : Option (Int32 × Int32) :=
  some (x_letters, 0)

/-! isFigure -/
def mF_isFigure (N : Nat)  (a0 : Int32)  : Option (Int32) :=
  (mF_in N a0 48 57).bind fun y1 => if y1 = 0 ∨ y1 = 1 then some y1 else none

/-! isLetter -/
def mF_isLetter (N : Nat)  (a0 : Int32)  : Option (Int32) :=
  (mF_in N a0 97 122).bind fun y1 => if y1 = 0 ∨ y1 = 1 then some y1 else none

/-! isWord -/
def mB_isWord_64 (N : Nat) (x_text : Nat → Int32) (x_tokenAt : Int32)  (s0 : Int32) : Option (Int32) :=
  if s0 = 0 ∨ s0 = 1 then some s0 else none

def mB_isWord_63 (N : Nat) (x_text : Nat → Int32) (x_tokenAt : Int32)   : Option (Int32) :=
  mB_isWord_64 N x_text x_tokenAt 0

def mF_isWord (N : Nat) (x_text : Nat → Int32) (x_tokenAt : Int32) (a0 : Int32) (a1 : Int32) (a2 : Int32) (a3 : Int32)  : Option (Int32) :=
  (gd x_tokenAt 120).bind fun j2 => if (x_text j2) = a0 then ((gd (x_tokenAt + 1) 120).bind fun j5 => if (x_text j5) = a1 then ((gd (x_tokenAt + 2) 120).bind fun j8 => if (x_text j8) = a2 then ((gd (x_tokenAt + 3) 120).bind fun j11 => if (x_text j11) = a3 then (mB_isWord_64 N x_text x_tokenAt 1)
  else (mB_isWord_63 N x_text x_tokenAt))
  else (mB_isWord_63 N x_text x_tokenAt))
  else (mB_isWord_63 N x_text x_tokenAt))
  else (mB_isWord_63 N x_text x_tokenAt)

/-! wordOf -/
def mB_wordOf_45 (N : Nat) (x_text : Nat → Int32) (x_tokenAt : Int32)  (s0 : Int32) : Option (Int32) :=
  some s0

def mB_wordOf_114 (N : Nat) (x_text : Nat → Int32) (x_tokenAt : Int32)  (s0 : Int32) : Option (Int32) :=
  some s0

def mB_wordOf_104 (N : Nat) (x_text : Nat → Int32) (x_tokenAt : Int32)  (s0 : Int32) : Option (Int32) :=
  if s0 = 0 then (mB_wordOf_114 N x_text x_tokenAt 3)
  else (mB_wordOf_114 N x_text x_tokenAt 5)

def mB_wordOf_103 (N : Nat) (x_text : Nat → Int32) (x_tokenAt : Int32)   : Option (Int32) :=
  mB_wordOf_104 N x_text x_tokenAt 0

def mF_wordOf (N : Nat) (x_text : Nat → Int32) (x_tokenAt : Int32) (a0 : Int32)  : Option (Int32) :=
  if a0 = 4 then ((mF_isWord N x_text x_tokenAt 114 117 108 101).bind fun y3 => if y3 = 0 then ((mF_isWord N x_text x_tokenAt 115 117 109 115).bind fun y6 => if y6 = 0 then (mB_wordOf_45 N x_text x_tokenAt 3)
  else (mB_wordOf_45 N x_text x_tokenAt 6))
  else (mB_wordOf_45 N x_text x_tokenAt 4))
  else (if a0 = 6 then ((mF_isWord N x_text x_tokenAt 99 104 97 110).bind fun y10 => if y10 = 0 then (mB_wordOf_103 N x_text x_tokenAt)
  else ((gd (x_tokenAt + 4) 120).bind fun j13 => if (x_text j13) = 99 then ((gd (x_tokenAt + 5) 120).bind fun j16 => if (x_text j16) = 101 then (mB_wordOf_104 N x_text x_tokenAt 1)
  else (mB_wordOf_103 N x_text x_tokenAt))
  else (mB_wordOf_103 N x_text x_tokenAt)))
  else (mB_wordOf_103 N x_text x_tokenAt))

/-! scan -/
def mB_scan_312 (N : Nat) (x_text : Nat → Int32) (x_letters : Int32)  (x_at : Int32) (x_tokenAt : Int32) (x_tokenSort : Int32) (x_tokenValue : Int32) : Option (Int32 × Int32 × Int32 × Int32) :=
  some (x_at, x_tokenAt, x_tokenSort, x_tokenValue)

def mB_scan_299 (N : Nat) (x_text : Nat → Int32) (x_letters : Int32)  (s1 : Int32) (x_at : Int32) (x_tokenAt : Int32) (x_tokenSort : Int32) (x_tokenValue : Int32) : Option (Int32 × Int32 × Int32 × Int32) :=
  mB_scan_312 N x_text x_letters (x_at + 1) x_tokenAt s1 x_tokenValue

def mB_scan_267 (N : Nat) (x_text : Nat → Int32) (x_letters : Int32)  (x_at : Int32) (x_tokenAt : Int32) (x_tokenSort : Int32) (x_tokenValue : Int32) : Option (Int32 × Int32 × Int32 × Int32) :=
  (mF_wordOf N x_text x_tokenAt (x_at - x_tokenAt)).bind fun y1 => mB_scan_312 N x_text x_letters x_at x_tokenAt y1 x_tokenValue

def mL_scan_228 (N : Nat) (x_text : Nat → Int32) (x_letters : Int32)  : Nat → Int32 → Int32 → Int32 → Int32 → Option (Int32 × Int32 × Int32 × Int32)
  | 0, _, _, _, _ => none
  | n + 1, x_at, x_tokenAt, x_tokenSort, x_tokenValue =>
  if x_letters ≤ x_at then (mB_scan_267 N x_text x_letters x_at x_tokenAt x_tokenSort x_tokenValue)
  else ((gd x_at 120).bind fun j4 => (mF_isLetter N (x_text j4)).bind fun y6 => if y6 = 0 then (mB_scan_267 N x_text x_letters x_at x_tokenAt x_tokenSort x_tokenValue)
  else ((mL_scan_228 N x_text x_letters n) (x_at + 1) x_tokenAt x_tokenSort x_tokenValue))

def mB_scan_215 (N : Nat) (x_text : Nat → Int32) (x_letters : Int32)  (s1 : Int32) (x_at : Int32) (x_tokenAt : Int32) (x_tokenSort : Int32) (x_tokenValue : Int32) : Option (Int32 × Int32 × Int32 × Int32) :=
  mB_scan_312 N x_text x_letters x_at x_tokenAt s1 x_tokenValue

def mB_scan_210 (N : Nat) (x_text : Nat → Int32) (x_letters : Int32)  (x_at : Int32) (x_tokenAt : Int32) (x_tokenSort : Int32) (x_tokenValue : Int32) : Option (Int32 × Int32 × Int32 × Int32) :=
  mB_scan_215 N x_text x_letters 3 x_at x_tokenAt x_tokenSort x_tokenValue

def mB_scan_214 (N : Nat) (x_text : Nat → Int32) (x_letters : Int32)  (x_at : Int32) (x_tokenAt : Int32) (x_tokenSort : Int32) (x_tokenValue : Int32) : Option (Int32 × Int32 × Int32 × Int32) :=
  mB_scan_215 N x_text x_letters 1 x_at x_tokenAt x_tokenSort x_tokenValue

def mB_scan_181 (N : Nat) (x_text : Nat → Int32) (x_letters : Int32)  (l1 : Int32) (x_at : Int32) (x_tokenAt : Int32) (x_tokenSort : Int32) (x_tokenValue : Int32) : Option (Int32 × Int32 × Int32 × Int32) :=
  if 99 < x_tokenValue then (mB_scan_210 N x_text x_letters x_at x_tokenAt x_tokenSort x_tokenValue)
  else (if l1 = 48 then (if x_at ≤ (x_tokenAt + 1) then (mB_scan_214 N x_text x_letters x_at x_tokenAt x_tokenSort x_tokenValue)
  else (mB_scan_210 N x_text x_letters x_at x_tokenAt x_tokenSort x_tokenValue))
  else (mB_scan_214 N x_text x_letters x_at x_tokenAt x_tokenSort x_tokenValue))

def mB_scan_165 (N : Nat) (x_text : Nat → Int32) (x_letters : Int32) (k102 : Int32 → Int32 → Int32 → Int32 → Int32 → Option (Int32 × Int32 × Int32 × Int32)) (s1 : Int32) (l1 : Int32) (x_at : Int32) (x_tokenAt : Int32) (x_tokenSort : Int32) (x_tokenValue : Int32) : Option (Int32 × Int32 × Int32 × Int32) :=
  k102 l1 (x_at + 1) x_tokenAt x_tokenSort s1

def mL_scan_102 (N : Nat) (x_text : Nat → Int32) (x_letters : Int32)  : Nat → Int32 → Int32 → Int32 → Int32 → Int32 → Option (Int32 × Int32 × Int32 × Int32)
  | 0, _, _, _, _, _ => none
  | n + 1, l1, x_at, x_tokenAt, x_tokenSort, x_tokenValue =>
  if x_letters ≤ x_at then (mB_scan_181 N x_text x_letters l1 x_at x_tokenAt x_tokenSort x_tokenValue)
  else ((gd x_at 120).bind fun j13 => (mF_isFigure N (x_text j13)).bind fun y15 => if y15 = 0 then (mB_scan_181 N x_text x_letters l1 x_at x_tokenAt x_tokenSort x_tokenValue)
  else (if x_tokenValue ≤ 99 then ((gd x_at 120).bind fun j19 => mB_scan_165 N x_text x_letters (mL_scan_102 N x_text x_letters n) (((10 * x_tokenValue) + (x_text j19)) - 48) l1 x_at x_tokenAt x_tokenSort x_tokenValue)
  else (mB_scan_165 N x_text x_letters (mL_scan_102 N x_text x_letters n) x_tokenValue l1 x_at x_tokenAt x_tokenSort x_tokenValue)))

def mB_scan_70 (N : Nat) (x_text : Nat → Int32) (x_letters : Int32)  (s0 : Int32) (x_at : Int32) (x_tokenAt : Int32) (x_tokenSort : Int32) (x_tokenValue : Int32) : Option (Int32 × Int32 × Int32 × Int32) :=
  if x_at = x_letters then (mB_scan_312 N x_text x_letters x_at x_tokenAt 2 x_tokenValue)
  else ((mF_isFigure N s0).bind fun y22 => if y22 = 0 then ((mF_isLetter N s0).bind fun y25 => if y25 = 0 then (if s0 = 59 then (mB_scan_299 N x_text x_letters s0 x_at x_tokenAt x_tokenSort x_tokenValue)
  else (mB_scan_299 N x_text x_letters 3 x_at x_tokenAt x_tokenSort x_tokenValue))
  else (mL_scan_228 N x_text x_letters N x_at x_tokenAt x_tokenSort x_tokenValue))
  else (mL_scan_102 N x_text x_letters N s0 x_at x_tokenAt x_tokenSort 0))

def mB_scan_38 (N : Nat) (x_text : Nat → Int32) (x_letters : Int32)  (x_at : Int32) (x_tokenAt : Int32) (x_tokenSort : Int32) (x_tokenValue : Int32) : Option (Int32 × Int32 × Int32 × Int32) :=
  if x_letters ≤ x_at then (mB_scan_70 N x_text x_letters 0 x_at x_at x_tokenSort x_tokenValue)
  else ((gd x_at 120).bind fun j30 => mB_scan_70 N x_text x_letters (x_text j30) x_at x_at x_tokenSort x_tokenValue)

def mL_scan_0 (N : Nat) (x_text : Nat → Int32) (x_letters : Int32)  : Nat → Int32 → Int32 → Int32 → Int32 → Option (Int32 × Int32 × Int32 × Int32)
  | 0, _, _, _, _ => none
  | n + 1, x_at, x_tokenAt, x_tokenSort, x_tokenValue =>
  if x_letters ≤ x_at then (mB_scan_38 N x_text x_letters x_at x_tokenAt x_tokenSort x_tokenValue)
  else ((gd x_at 120).bind fun j33 => if (x_text j33) = 32 then ((mL_scan_0 N x_text x_letters n) (x_at + 1) x_tokenAt x_tokenSort x_tokenValue)
  else (mB_scan_38 N x_text x_letters x_at x_tokenAt x_tokenSort x_tokenValue))

def mF_scan (N : Nat) (x_text : Nat → Int32) (x_letters : Int32)  (x_at : Int32) (x_tokenAt : Int32) (x_tokenSort : Int32) (x_tokenValue : Int32) : Option (Int32 × Int32 × Int32 × Int32) :=
  mL_scan_0 N x_text x_letters N x_at x_tokenAt x_tokenSort x_tokenValue

/-! scanNumber -/
def mB_scanNumber_29 (N : Nat) (x_text : Nat → Int32) (x_letters : Int32)  (s0 : Int32) (x_at : Int32) (x_tokenAt : Int32) (x_tokenSort : Int32) (x_tokenValue : Int32) : Option (Int32 × Int32 × Int32 × Int32 × Int32) :=
  if s0 = 0 ∨ s0 = 1 then some (s0, x_at, x_tokenAt, x_tokenSort, x_tokenValue) else none

def mB_scanNumber_28 (N : Nat) (x_text : Nat → Int32) (x_letters : Int32)  (x_at : Int32) (x_tokenAt : Int32) (x_tokenSort : Int32) (x_tokenValue : Int32) : Option (Int32 × Int32 × Int32 × Int32 × Int32) :=
  mB_scanNumber_29 N x_text x_letters 0 x_at x_tokenAt x_tokenSort x_tokenValue

def mF_scanNumber (N : Nat) (x_text : Nat → Int32) (x_letters : Int32) (a0 : Int32) (a1 : Int32) (x_at : Int32) (x_tokenAt : Int32) (x_tokenSort : Int32) (x_tokenValue : Int32) : Option (Int32 × Int32 × Int32 × Int32 × Int32) :=
  (mF_scan N x_text x_letters x_at x_tokenAt x_tokenSort x_tokenValue).bind fun y2 => if y2.2.2.1 = 1 then ((mF_in N y2.2.2.2 a0 a1).bind fun y5 => if y5 = 0 then (mB_scanNumber_28 N x_text x_letters y2.1 y2.2.1 y2.2.2.1 y2.2.2.2)
  else (mB_scanNumber_29 N x_text x_letters 1 y2.1 y2.2.1 y2.2.2.1 y2.2.2.2))
  else (mB_scanNumber_28 N x_text x_letters y2.1 y2.2.1 y2.2.2.1 y2.2.2.2)

/-! readSums -/
def mB_readSums_16 (N : Nat) (x_text : Nat → Int32) (x_letters : Int32)  (x_read : Nat → Int32) (x_at : Int32) (x_tokenAt : Int32) (x_tokenSort : Int32) (x_tokenValue : Int32) (x_areSumsTold : Int32) : Option (Int32 × (Nat → Int32) × Int32 × Int32 × Int32 × Int32 × Int32) :=
  some (0, x_read, x_at, x_tokenAt, x_tokenSort, x_tokenValue, x_areSumsTold)

def mF_readSums (N : Nat) (x_text : Nat → Int32) (x_letters : Int32)  (x_read : Nat → Int32) (x_at : Int32) (x_tokenAt : Int32) (x_tokenSort : Int32) (x_tokenValue : Int32) (x_areSumsTold : Int32) : Option (Int32 × (Nat → Int32) × Int32 × Int32 × Int32 × Int32 × Int32) :=
  if x_areSumsTold = 0 then ((mF_scanNumber N x_text x_letters 0 2 x_at x_tokenAt x_tokenSort x_tokenValue).bind fun y2 => if y2.1 = 0 then (mB_readSums_16 N x_text x_letters x_read y2.2.1 y2.2.2.1 y2.2.2.2.1 y2.2.2.2.2 x_areSumsTold)
  else ((mF_scanNumber N x_text x_letters 1 9 y2.2.1 y2.2.2.1 y2.2.2.2.1 y2.2.2.2.2).bind fun y5 => if y5.1 = 0 then (some (0, (upd x_read 15 y2.2.2.2.2), y5.2.1, y5.2.2.1, y5.2.2.2.1, y5.2.2.2.2, x_areSumsTold))
  else (some (1, (upd (upd x_read 15 y2.2.2.2.2) 16 y5.2.2.2.2), y5.2.1, y5.2.2.1, y5.2.2.2.1, y5.2.2.2.2, 1))))
  else (mB_readSums_16 N x_text x_letters x_read x_at x_tokenAt x_tokenSort x_tokenValue x_areSumsTold)

/-! readChance -/
def mB_readChance_72 (N : Nat) (x_text : Nat → Int32) (x_letters : Int32)  (s0 : Int32) (x_read : Nat → Int32) (x_at : Int32) (x_tokenAt : Int32) (x_tokenSort : Int32) (x_tokenValue : Int32) (x_isChanceTold : Int32) : Option (Int32 × (Nat → Int32) × Int32 × Int32 × Int32 × Int32 × Int32) :=
  if s0 = 0 ∨ s0 = 1 then some (s0, x_read, x_at, x_tokenAt, x_tokenSort, x_tokenValue, x_isChanceTold) else none

def mL_readChance_13 (N : Nat) (x_text : Nat → Int32) (x_letters : Int32)  : Nat → Int32 → Int32 → (Nat → Int32) → Int32 → Int32 → Int32 → Int32 → Int32 → Option (Int32 × (Nat → Int32) × Int32 × Int32 × Int32 × Int32 × Int32)
  | 0, _, _, _, _, _, _, _, _ => none
  | n + 1, l1, l2, x_read, x_at, x_tokenAt, x_tokenSort, x_tokenValue, x_isChanceTold =>
  if 5 ≤ l2 then (if l1 = 10 then (mB_readChance_72 N x_text x_letters 1 x_read x_at x_tokenAt x_tokenSort x_tokenValue 1)
  else (mB_readChance_72 N x_text x_letters 0 x_read x_at x_tokenAt x_tokenSort x_tokenValue 1))
  else ((mF_scanNumber N x_text x_letters 0 10 x_at x_tokenAt x_tokenSort x_tokenValue).bind fun y4 => if y4.1 = 0 then (some (0, x_read, y4.2.1, y4.2.2.1, y4.2.2.2.1, y4.2.2.2.2, x_isChanceTold))
  else ((gd (10 + l2) 98).bind fun j7 => (mL_readChance_13 N x_text x_letters n) (l1 + y4.2.2.2.2) (l2 + 1) (upd x_read j7 y4.2.2.2.2) y4.2.1 y4.2.2.1 y4.2.2.2.1 y4.2.2.2.2 x_isChanceTold))

def mF_readChance (N : Nat) (x_text : Nat → Int32) (x_letters : Int32)  (x_read : Nat → Int32) (x_at : Int32) (x_tokenAt : Int32) (x_tokenSort : Int32) (x_tokenValue : Int32) (x_isChanceTold : Int32) : Option (Int32 × (Nat → Int32) × Int32 × Int32 × Int32 × Int32 × Int32) :=
  if x_isChanceTold = 0 then (mL_readChance_13 N x_text x_letters N 0 0 x_read x_at x_tokenAt x_tokenSort x_tokenValue x_isChanceTold)
  else (some (0, x_read, x_at, x_tokenAt, x_tokenSort, x_tokenValue, x_isChanceTold))

/-! width -/
def mL_width_4 (N : Nat) (x_read : Nat → Int32)  : Nat → Int32 → Int32 → Option (Int32)
  | 0, _, _ => none
  | n + 1, l1, l2 =>
  if (x_read 0) ≤ l2 then (some l1)
  else ((gd ((1 + (3 * l2)) + 1) 98).bind fun j2 => (mL_width_4 N x_read n) (l1 + ((x_read j2) - 1)) (l2 + 1))

def mF_width (N : Nat) (x_read : Nat → Int32)   : Option (Int32) :=
  mL_width_4 N x_read N 0 0

/-! readRule -/
def mB_readRule_19 (N : Nat) (x_text : Nat → Int32) (x_letters : Int32)  (x_read : Nat → Int32) (x_at : Int32) (x_tokenAt : Int32) (x_tokenSort : Int32) (x_tokenValue : Int32) : Option (Int32 × (Nat → Int32) × Int32 × Int32 × Int32 × Int32) :=
  some (0, x_read, x_at, x_tokenAt, x_tokenSort, x_tokenValue)

def mB_readRule_46 (N : Nat) (x_text : Nat → Int32) (x_letters : Int32)  (s1 : Int32) (s2 : Int32) (l1 : Int32) (x_read : Nat → Int32) (x_at : Int32) (x_tokenAt : Int32) (x_tokenSort : Int32) (x_tokenValue : Int32) : Option (Int32 × (Nat → Int32) × Int32 × Int32 × Int32 × Int32) :=
  (mF_scanNumber N x_text x_letters s1 s2 x_at x_tokenAt x_tokenSort x_tokenValue).bind fun y1 => if y1.1 = 0 then (some (0, x_read, y1.2.1, y1.2.2.1, y1.2.2.2.1, y1.2.2.2.2))
  else ((mF_scanNumber N x_text x_letters 1 31 y1.2.1 y1.2.2.1 y1.2.2.2.1 y1.2.2.2.2).bind fun y4 => if y4.1 = 0 then (some (0, x_read, y4.2.1, y4.2.2.1, y4.2.2.2.1, y4.2.2.2.2))
  else ((gd (1 + (3 * (x_read 0))) 98).bind fun j7 => (gd ((1 + (3 * (x_read 0))) + 1) 98).bind fun j9 => (gd ((1 + (3 * (x_read 0))) + 2) 98).bind fun j11 => some (1, (upd (upd (upd (upd x_read j7 l1) j9 y1.2.2.2.2) j11 y4.2.2.2.2) 0 (((upd (upd (upd x_read j7 l1) j9 y1.2.2.2.2) j11 y4.2.2.2.2) 0) + 1)), y4.2.1, y4.2.2.1, y4.2.2.2.1, y4.2.2.2.2)))

def mF_readRule (N : Nat) (x_text : Nat → Int32) (x_letters : Int32)  (x_read : Nat → Int32) (x_at : Int32) (x_tokenAt : Int32) (x_tokenSort : Int32) (x_tokenValue : Int32) : Option (Int32 × (Nat → Int32) × Int32 × Int32 × Int32 × Int32) :=
  if (x_read 0) = 3 then (mB_readRule_19 N x_text x_letters x_read x_at x_tokenAt x_tokenSort x_tokenValue)
  else ((mF_scanNumber N x_text x_letters 1 4 x_at x_tokenAt x_tokenSort x_tokenValue).bind fun y14 => if y14.1 = 0 then (mB_readRule_19 N x_text x_letters x_read y14.2.1 y14.2.2.1 y14.2.2.2.1 y14.2.2.2.2)
  else ((mF_width N x_read).bind fun y17 => if 4 ≤ (7 - y17) then (mB_readRule_46 N x_text x_letters y14.2.2.2.2 4 y14.2.2.2.2 x_read y14.2.1 y14.2.2.1 y14.2.2.2.1 y14.2.2.2.2)
  else (mB_readRule_46 N x_text x_letters y14.2.2.2.2 (7 - y17) y14.2.2.2.2 x_read y14.2.1 y14.2.2.1 y14.2.2.2.1 y14.2.2.2.2)))

/-! readItem -/
def mB_readItem_86 (N : Nat) (x_text : Nat → Int32) (x_letters : Int32)  (s0 : Int32) (x_read : Nat → Int32) (x_at : Int32) (x_tokenAt : Int32) (x_tokenSort : Int32) (x_tokenValue : Int32) (x_items : Int32) (x_isChanceTold : Int32) (x_areSumsTold : Int32) : Option (Int32 × (Nat → Int32) × Int32 × Int32 × Int32 × Int32 × Int32 × Int32 × Int32) :=
  if s0 = 0 ∨ s0 = 1 then some (s0, x_read, x_at, x_tokenAt, x_tokenSort, x_tokenValue, x_items, x_isChanceTold, x_areSumsTold) else none

def mB_readItem_51 (N : Nat) (x_text : Nat → Int32) (x_letters : Int32)  (s0 : Int32) (x_read : Nat → Int32) (x_at : Int32) (x_tokenAt : Int32) (x_tokenSort : Int32) (x_tokenValue : Int32) (x_items : Int32) (x_isChanceTold : Int32) (x_areSumsTold : Int32) : Option (Int32 × (Nat → Int32) × Int32 × Int32 × Int32 × Int32 × Int32 × Int32 × Int32) :=
  if s0 = 0 then (some (0, x_read, x_at, x_tokenAt, x_tokenSort, x_tokenValue, x_items, x_isChanceTold, x_areSumsTold))
  else ((mF_scan N x_text x_letters x_at x_tokenAt x_tokenSort x_tokenValue).bind fun y3 => if y3.2.2.1 = 59 then (mB_readItem_86 N x_text x_letters 1 x_read y3.1 y3.2.1 y3.2.2.1 y3.2.2.2 (x_items + 1) x_isChanceTold x_areSumsTold)
  else (mB_readItem_86 N x_text x_letters 0 x_read y3.1 y3.2.1 y3.2.2.1 y3.2.2.2 (x_items + 1) x_isChanceTold x_areSumsTold))

def mB_readItem_50 (N : Nat) (x_text : Nat → Int32) (x_letters : Int32)  (x_read : Nat → Int32) (x_at : Int32) (x_tokenAt : Int32) (x_tokenSort : Int32) (x_tokenValue : Int32) (x_items : Int32) (x_isChanceTold : Int32) (x_areSumsTold : Int32) : Option (Int32 × (Nat → Int32) × Int32 × Int32 × Int32 × Int32 × Int32 × Int32 × Int32) :=
  mB_readItem_51 N x_text x_letters 0 x_read x_at x_tokenAt x_tokenSort x_tokenValue x_items x_isChanceTold x_areSumsTold

def mF_readItem (N : Nat) (x_text : Nat → Int32) (x_letters : Int32)  (x_read : Nat → Int32) (x_at : Int32) (x_tokenAt : Int32) (x_tokenSort : Int32) (x_tokenValue : Int32) (x_items : Int32) (x_isChanceTold : Int32) (x_areSumsTold : Int32) : Option (Int32 × (Nat → Int32) × Int32 × Int32 × Int32 × Int32 × Int32 × Int32 × Int32) :=
  if x_tokenSort = 4 then ((mF_readRule N x_text x_letters x_read x_at x_tokenAt x_tokenSort x_tokenValue).bind fun y7 => mB_readItem_51 N x_text x_letters y7.1 y7.2.1 y7.2.2.1 y7.2.2.2.1 y7.2.2.2.2.1 y7.2.2.2.2.2 x_items x_isChanceTold x_areSumsTold)
  else (if x_tokenSort = 5 then ((mF_readChance N x_text x_letters x_read x_at x_tokenAt x_tokenSort x_tokenValue x_isChanceTold).bind fun y10 => mB_readItem_51 N x_text x_letters y10.1 y10.2.1 y10.2.2.1 y10.2.2.2.1 y10.2.2.2.2.1 y10.2.2.2.2.2.1 x_items y10.2.2.2.2.2.2 x_areSumsTold)
  else (if x_tokenSort = 6 then ((mF_readSums N x_text x_letters x_read x_at x_tokenAt x_tokenSort x_tokenValue x_areSumsTold).bind fun y13 => if y13.1 = 0 then (mB_readItem_50 N x_text x_letters y13.2.1 y13.2.2.1 y13.2.2.2.1 y13.2.2.2.2.1 y13.2.2.2.2.2.1 x_items x_isChanceTold y13.2.2.2.2.2.2)
  else (mB_readItem_51 N x_text x_letters 1 y13.2.1 y13.2.2.1 y13.2.2.2.1 y13.2.2.2.2.1 y13.2.2.2.2.2.1 x_items x_isChanceTold y13.2.2.2.2.2.2))
  else (mB_readItem_50 N x_text x_letters x_read x_at x_tokenAt x_tokenSort x_tokenValue x_items x_isChanceTold x_areSumsTold)))

/-! readText -/
def mL_readText_28 (N : Nat) (x_text : Nat → Int32) (x_letters : Int32)  : Nat → (Nat → Int32) → Int32 → Int32 → Int32 → Int32 → Int32 → Int32 → Int32 → Option (Int32 × (Nat → Int32) × Int32 × Int32 × Int32 × Int32 × Int32 × Int32 × Int32)
  | 0, _, _, _, _, _, _, _, _ => none
  | n + 1, x_read, x_at, x_tokenAt, x_tokenSort, x_tokenValue, x_items, x_isChanceTold, x_areSumsTold =>
  if x_tokenSort = 2 then (some ((-9), x_read, x_at, x_tokenAt, x_tokenSort, x_tokenValue, x_items, x_isChanceTold, x_areSumsTold))
  else ((mF_readItem N x_text x_letters x_read x_at x_tokenAt x_tokenSort x_tokenValue x_items x_isChanceTold x_areSumsTold).bind fun y2 => if y2.1 = 0 then (some (y2.2.2.2.1, y2.2.1, y2.2.2.1, y2.2.2.2.1, y2.2.2.2.2.1, y2.2.2.2.2.2.1, y2.2.2.2.2.2.2.1, y2.2.2.2.2.2.2.2.1, y2.2.2.2.2.2.2.2.2))
  else ((mF_scan N x_text x_letters y2.2.2.1 y2.2.2.2.1 y2.2.2.2.2.1 y2.2.2.2.2.2.1).bind fun y5 => (mL_readText_28 N x_text x_letters n) y2.2.1 y5.1 y5.2.1 y5.2.2.1 y5.2.2.2 y2.2.2.2.2.2.2.1 y2.2.2.2.2.2.2.2.1 y2.2.2.2.2.2.2.2.2))

def mF_readText (N : Nat) (x_text : Nat → Int32) (x_letters : Int32)  (x_read : Nat → Int32) (x_at : Int32) (x_tokenAt : Int32) (x_tokenSort : Int32) (x_tokenValue : Int32) (x_items : Int32) (x_isChanceTold : Int32) (x_areSumsTold : Int32) : Option (Int32 × (Nat → Int32) × Int32 × Int32 × Int32 × Int32 × Int32 × Int32 × Int32) :=
  (mF_begin N x_read).bind fun y7 => (mF_scan N x_text x_letters 0 x_tokenAt x_tokenSort x_tokenValue).bind fun y9 => mL_readText_28 N x_text x_letters N y7 y9.1 y9.2.1 y9.2.2.1 y9.2.2.2 0 0 0

/-! note -/
def mB_note_49 (N : Nat) (x_now : Nat → Int32)  (x_past : Nat → Int32) (x_deeds : Int32) : Option ((Nat → Int32) × Int32) :=
  (mF_bring N 98 588 x_now 0 x_past (98 * x_deeds)).bind fun y1 => some (y1, (x_deeds + 1))

def mL_note_11 (N : Nat) (x_now : Nat → Int32)  : Nat → Int32 → (Nat → Int32) → Int32 → Option ((Nat → Int32) × Int32)
  | 0, _, _, _ => none
  | n + 1, l1, x_past, x_deeds =>
  if 490 ≤ l1 then (mB_note_49 N x_now x_past (x_deeds - 1))
  else ((gd (l1 + 98) 588).bind fun j4 => (gd l1 588).bind fun j6 => (mL_note_11 N x_now n) (l1 + 1) (upd x_past j6 (x_past j4)) x_deeds)

def mF_note (N : Nat) (x_now : Nat → Int32)  (x_past : Nat → Int32) (x_deeds : Int32) : Option ((Nat → Int32) × Int32) :=
  if x_deeds = 6 then (mL_note_11 N x_now N 0 x_past x_deeds)
  else (mB_note_49 N x_now x_past x_deeds)

/-! tells -/
def mF_tells (N : Nat) (x_text : Nat → Int32)  (x_now : Nat → Int32) (x_read : Nat → Int32) (x_past : Nat → Int32) (x_deeds : Int32) (x_letters : Int32) (x_at : Int32) (x_tokenAt : Int32) (x_tokenSort : Int32) (x_tokenValue : Int32) (x_items : Int32) (x_isChanceTold : Int32) (x_areSumsTold : Int32) : Option (Int32 × (Nat → Int32) × (Nat → Int32) × (Nat → Int32) × Int32 × Int32 × Int32 × Int32 × Int32 × Int32 × Int32 × Int32 × Int32) :=
  (mF_readText N x_text x_letters x_read x_at x_tokenAt x_tokenSort x_tokenValue x_items x_isChanceTold x_areSumsTold).bind fun y1 => if y1.1 = (-9) then ((mF_note N x_now x_past x_deeds).bind fun y4 => (mF_takeRead N y1.2.1 x_now).bind fun y6 => some (y1.2.2.2.2.2.2.1, y6, y1.2.1, y4.1, y4.2, 0, y1.2.2.1, y1.2.2.2.1, y1.2.2.2.2.1, y1.2.2.2.2.2.1, y1.2.2.2.2.2.2.1, y1.2.2.2.2.2.2.2.1, y1.2.2.2.2.2.2.2.2))
  else (some ((-10) - y1.1, x_now, y1.2.1, x_past, x_deeds, x_letters, y1.2.2.1, y1.2.2.2.1, y1.2.2.2.2.1, y1.2.2.2.2.2.1, y1.2.2.2.2.2.2.1, y1.2.2.2.2.2.2.2.1, y1.2.2.2.2.2.2.2.2))

/-! undo -/
def mF_undo (N : Nat) (x_past : Nat → Int32)  (x_now : Nat → Int32) (x_deeds : Int32) : Option (Int32 × (Nat → Int32) × Int32) :=
  if x_deeds = 0 then (some ((-2), x_now, x_deeds))
  else ((mF_bring N 588 98 x_past (98 * (x_deeds - 1)) x_now 0).bind fun y2 => some ((x_deeds - 1), y2, (x_deeds - 1)))

/-! isSign -/
def mF_isSign (N : Nat)  (a0 : Int32)  : Option (Int32) :=
  (mF_in N a0 0 4).bind fun y1 => if y1 = 0 ∨ y1 = 1 then some y1 else none

/-! comes -/
def mB_comes_17 (N : Nat)   (x_now : Nat → Int32) (x_past : Nat → Int32) (x_deeds : Int32) : Option (Int32 × (Nat → Int32) × (Nat → Int32) × Int32) :=
  some ((-1), x_now, x_past, x_deeds)

def mL_comes_109 (N : Nat)   : Nat → Int32 → Int32 → Int32 → Int32 → (Nat → Int32) → (Nat → Int32) → Int32 → Option (Int32 × (Nat → Int32) × (Nat → Int32) × Int32)
  | 0, _, _, _, _, _, _, _ => none
  | n + 1, l1, l2, l3, l4, x_now, x_past, x_deeds =>
  if l4 ≤ l3 then ((gd (18 + l3) 98).bind fun j2 => (gd (58 + l3) 98).bind fun j4 => some (l3, (upd (upd (upd x_now j2 l1) j4 l2) 17 (((upd (upd x_now j2 l1) j4 l2) 17) + 1)), x_past, x_deeds))
  else ((gd ((18 + l4) - 1) 98).bind fun j6 => (gd (18 + l4) 98).bind fun j8 => (gd ((58 + l4) - 1) 98).bind fun j10 => (gd (58 + l4) 98).bind fun j12 => (mL_comes_109 N  n) l1 l2 l3 (l4 + (-1)) (upd (upd x_now j8 (x_now j6)) j12 ((upd x_now j8 (x_now j6)) j10)) x_past x_deeds)

def mB_comes_73 (N : Nat)  (k24 : Int32 → Int32 → Int32 → Int32 → (Nat → Int32) → (Nat → Int32) → Int32 → Option (Int32 × (Nat → Int32) × (Nat → Int32) × Int32)) (s0 : Int32) (s1 : Int32) (l1 : Int32) (l2 : Int32) (l4 : Int32) (x_now : Nat → Int32) (x_past : Nat → Int32) (x_deeds : Int32) : Option (Int32 × (Nat → Int32) × (Nat → Int32) × Int32) :=
  k24 l1 l2 (s0 + s1) (l4 + 1) x_now x_past x_deeds

def mL_comes_24 (N : Nat)   : Nat → Int32 → Int32 → Int32 → Int32 → (Nat → Int32) → (Nat → Int32) → Int32 → Option (Int32 × (Nat → Int32) × (Nat → Int32) × Int32)
  | 0, _, _, _, _, _, _, _ => none
  | n + 1, l1, l2, l3, l4, x_now, x_past, x_deeds =>
  if (x_now 17) ≤ l4 then (if (x_now 17) = 40 then (some ((-3), x_now, x_past, x_deeds))
  else ((mF_note N x_now x_past x_deeds).bind fun y16 => mL_comes_109 N N l1 l2 l3 (x_now 17) x_now y16.1 y16.2))
  else ((gd (18 + l4) 98).bind fun j18 => if (x_now j18) = l1 then (some ((-2), x_now, x_past, x_deeds))
  else ((gd (18 + l4) 98).bind fun j21 => if l1 ≤ (x_now j21) then (mB_comes_73 N (mL_comes_24 N  n) l3 0 l1 l2 l4 x_now x_past x_deeds)
  else (mB_comes_73 N (mL_comes_24 N  n) l3 1 l1 l2 l4 x_now x_past x_deeds)))

def mF_comes (N : Nat)  (a0 : Int32) (a1 : Int32) (x_now : Nat → Int32) (x_past : Nat → Int32) (x_deeds : Int32) : Option (Int32 × (Nat → Int32) × (Nat → Int32) × Int32) :=
  (mF_in N a0 0 99).bind fun y24 => if y24 = 0 then (mB_comes_17 N x_now x_past x_deeds)
  else ((mF_isSign N a1).bind fun y27 => if y27 = 0 then (mB_comes_17 N x_now x_past x_deeds)
  else (mL_comes_24 N N a0 a1 0 0 x_now x_past x_deeds))

/-! isRow -/
def mF_isRow (N : Nat) (x_now : Nat → Int32) (a0 : Int32)  : Option (Int32) :=
  (mF_in N a0 0 ((x_now 17) - 1)).bind fun y1 => if y1 = 0 ∨ y1 = 1 then some y1 else none

/-! goes -/
def mL_goes_37 (N : Nat)   : Nat → Int32 → Int32 → (Nat → Int32) → (Nat → Int32) → Int32 → Option (Int32 × (Nat → Int32) × (Nat → Int32) × Int32)
  | 0, _, _, _, _, _ => none
  | n + 1, l2, l3, x_now, x_past, x_deeds =>
  if (x_now 17) ≤ l3 then (some (l2, x_now, x_past, x_deeds))
  else ((gd ((18 + l3) + 1) 98).bind fun j2 => (gd (18 + l3) 98).bind fun j4 => (gd ((58 + l3) + 1) 98).bind fun j6 => (gd (58 + l3) 98).bind fun j8 => (mL_goes_37 N  n) l2 (l3 + 1) (upd (upd x_now j4 (x_now j2)) j8 ((upd x_now j4 (x_now j2)) j6)) x_past x_deeds)

def mF_goes (N : Nat)  (a0 : Int32) (x_now : Nat → Int32) (x_past : Nat → Int32) (x_deeds : Int32) : Option (Int32 × (Nat → Int32) × (Nat → Int32) × Int32) :=
  (mF_isRow N x_now a0).bind fun y10 => if y10 = 0 then (some ((-1), x_now, x_past, x_deeds))
  else ((mF_note N x_now x_past x_deeds).bind fun y13 => (gd (18 + a0) 98).bind fun j15 => mL_goes_37 N N (x_now j15) a0 (upd x_now 17 ((x_now 17) - 1)) y13.1 y13.2)

/-! becomes -/
def mB_becomes_15 (N : Nat)   (x_now : Nat → Int32) (x_past : Nat → Int32) (x_deeds : Int32) : Option (Int32 × (Nat → Int32) × (Nat → Int32) × Int32) :=
  some ((-1), x_now, x_past, x_deeds)

def mF_becomes (N : Nat)  (a0 : Int32) (a1 : Int32) (x_now : Nat → Int32) (x_past : Nat → Int32) (x_deeds : Int32) : Option (Int32 × (Nat → Int32) × (Nat → Int32) × Int32) :=
  (mF_isRow N x_now a0).bind fun y1 => if y1 = 0 then (mB_becomes_15 N x_now x_past x_deeds)
  else ((mF_isSign N a1).bind fun y4 => if y4 = 0 then (mB_becomes_15 N x_now x_past x_deeds)
  else ((gd (58 + a0) 98).bind fun j7 => if (x_now j7) = a1 then (some ((-2), x_now, x_past, x_deeds))
  else ((mF_note N x_now x_past x_deeds).bind fun y10 => (gd (58 + a0) 98).bind fun j12 => some (x_now j7, (upd x_now j12 a1), y10.1, y10.2))))

/-! rule -/
def mB_rule_41 (N : Nat) (x_now : Nat → Int32)  (s0 : Int32) : Option (Int32) :=
  some s0

def mB_rule_40 (N : Nat) (x_now : Nat → Int32)   : Option (Int32) :=
  mB_rule_41 N x_now (-1)

def mF_rule (N : Nat) (x_now : Nat → Int32) (a0 : Int32) (a1 : Int32)  : Option (Int32) :=
  (mF_in N a0 0 ((x_now 0) - 1)).bind fun y1 => if y1 = 0 then (mB_rule_40 N x_now)
  else ((mF_in N a1 0 2).bind fun y4 => if y4 = 0 then (mB_rule_40 N x_now)
  else ((gd ((1 + (3 * a0)) + a1) 98).bind fun j7 => mB_rule_41 N x_now (x_now j7)))

/-! chance -/
def mB_chance_20 (N : Nat) (x_now : Nat → Int32)  (s0 : Int32) : Option (Int32) :=
  some s0

def mF_chance (N : Nat) (x_now : Nat → Int32) (a0 : Int32)  : Option (Int32) :=
  (mF_isSign N a0).bind fun y1 => if y1 = 0 then (mB_chance_20 N x_now (-1))
  else ((gd (10 + a0) 98).bind fun j4 => mB_chance_20 N x_now (x_now j4))

/-! ones -/
def mL_ones_4 (N : Nat)   : Nat → Int32 → Int32 → Int32 → Option (Int32)
  | 0, _, _, _ => none
  | n + 1, l0, l1, l2 =>
  if 8 ≤ l2 then (some l1)
  else ((mL_ones_4 N  n) l0 (l1 + ((l0 >>> (l2 &&& 31)) &&& 1)) (l2 + 1))

def mF_ones (N : Nat)  (a0 : Int32)  : Option (Int32) :=
  mL_ones_4 N N a0 0 0

/-! metBy -/
def mB_metBy_99 (N : Nat) (x_now : Nat → Int32) (k8 : Int32 → Int32 → Int32 → Int32 → Int32 → Option (Int32)) (s0 : Int32) (s1 : Int32) (l1 : Int32) (l2 : Int32) (l4 : Int32) (l5 : Int32) (l6 : Int32) : Option (Int32) :=
  k8 l1 l2 (s0 ||| s1) (l4 + l6) (l5 + 1)

def mL_metBy_8 (N : Nat) (x_now : Nat → Int32)  : Nat → Int32 → Int32 → Int32 → Int32 → Int32 → Option (Int32)
  | 0, _, _, _, _, _ => none
  | n + 1, l1, l2, l3, l4, l5 =>
  if (x_now 0) ≤ l5 then (some l3)
  else ((gd ((1 + (3 * l5)) + 1) 98).bind fun j2 => (gd ((1 + (3 * l5)) + 2) 98).bind fun j4 => (mF_ones N ((l1 >>> (l4 &&& 31)) &&& (((1 : Int32) <<< (((x_now j2) - 1) &&& 31)) - 1))).bind fun y6 => (gd (1 + (3 * l5)) 98).bind fun j8 => if (y6 + (((x_now j4) >>> (l2 &&& 31)) &&& 1)) < (x_now j8) then (mB_metBy_99 N x_now (mL_metBy_8 N x_now n) l3 0 l1 l2 l4 l5 ((x_now j2) - 1))
  else (mB_metBy_99 N x_now (mL_metBy_8 N x_now n) l3 ((1 : Int32) <<< (l5 &&& 31)) l1 l2 l4 l5 ((x_now j2) - 1)))

def mF_metBy (N : Nat) (x_now : Nat → Int32) (a0 : Int32) (a1 : Int32)  : Option (Int32) :=
  mL_metBy_8 N x_now N a0 a1 0 0 0

/-! nextBy -/
def mL_nextBy_8 (N : Nat) (x_now : Nat → Int32)  : Nat → Int32 → Int32 → Int32 → Int32 → Int32 → Option (Int32)
  | 0, _, _, _, _, _ => none
  | n + 1, l1, l2, l3, l4, l5 =>
  if (x_now 0) ≤ l5 then (some l3)
  else ((gd ((1 + (3 * l5)) + 1) 98).bind fun j2 => (gd ((1 + (3 * l5)) + 2) 98).bind fun j4 => (mL_nextBy_8 N x_now n) l1 l2 (l3 ||| ((((2 * ((l1 >>> (l4 &&& 31)) &&& (((1 : Int32) <<< (((x_now j2) - 1) &&& 31)) - 1))) + (((x_now j4) >>> (l2 &&& 31)) &&& 1)) &&& (((1 : Int32) <<< (((x_now j2) - 1) &&& 31)) - 1)) <<< (l4 &&& 31))) (l4 + ((x_now j2) - 1)) (l5 + 1))

def mF_nextBy (N : Nat) (x_now : Nat → Int32) (a0 : Int32) (a1 : Int32)  : Option (Int32) :=
  mL_nextBy_8 N x_now N a0 a1 0 0 0

/-! goThrough -/
def mB_goThrough_192 (N : Nat) (x_now : Nat → Int32) (k9 : Int32 → Int32 → Int32 → Int32 → (Nat → Int32) → (Nat → Int32) → (Nat → Int32) → (Nat → Int32) → (Nat → Int32) → Option ((Nat → Int32) × (Nat → Int32) × (Nat → Int32) × (Nat → Int32) × (Nat → Int32))) (s0 : Int32) (l1 : Int32) (l2 : Int32) (l4 : Int32) (x_metAt : Nat → Int32) (x_memoryAt : Nat → Int32) (x_upAt : Nat → Int32) (x_downAt : Nat → Int32) (x_isSignal : Nat → Int32) : Option ((Nat → Int32) × (Nat → Int32) × (Nat → Int32) × (Nat → Int32) × (Nat → Int32)) :=
  (gd l4 40).bind fun j1 => (gd l4 40).bind fun j3 => k9 l1 l2 s0 (l4 + 1) x_metAt x_memoryAt (upd x_upAt j1 l2) (upd x_downAt j3 s0) x_isSignal

def mB_goThrough_176 (N : Nat) (x_now : Nat → Int32) (k9 : Int32 → Int32 → Int32 → Int32 → (Nat → Int32) → (Nat → Int32) → (Nat → Int32) → (Nat → Int32) → (Nat → Int32) → Option ((Nat → Int32) × (Nat → Int32) × (Nat → Int32) × (Nat → Int32) × (Nat → Int32))) (s0 : Int32) (l1 : Int32) (l3 : Int32) (l4 : Int32) (x_metAt : Nat → Int32) (x_memoryAt : Nat → Int32) (x_upAt : Nat → Int32) (x_downAt : Nat → Int32) (x_isSignal : Nat → Int32) : Option ((Nat → Int32) × (Nat → Int32) × (Nat → Int32) × (Nat → Int32) × (Nat → Int32)) :=
  (gd l4 40).bind fun j5 => if (x_isSignal j5) = 0 then (mB_goThrough_192 N x_now k9 l3 l1 s0 l4 x_metAt x_memoryAt x_upAt x_downAt x_isSignal)
  else (mB_goThrough_192 N x_now k9 0 l1 s0 l4 x_metAt x_memoryAt x_upAt x_downAt x_isSignal)

def mB_goThrough_160 (N : Nat) (x_now : Nat → Int32) (k9 : Int32 → Int32 → Int32 → Int32 → (Nat → Int32) → (Nat → Int32) → (Nat → Int32) → (Nat → Int32) → (Nat → Int32) → Option ((Nat → Int32) × (Nat → Int32) × (Nat → Int32) × (Nat → Int32) × (Nat → Int32))) (s1 : Int32) (s2 : Int32) (l1 : Int32) (l2 : Int32) (l3 : Int32) (l4 : Int32) (x_metAt : Nat → Int32) (x_memoryAt : Nat → Int32) (x_upAt : Nat → Int32) (x_downAt : Nat → Int32) (x_isSignal : Nat → Int32) : Option ((Nat → Int32) × (Nat → Int32) × (Nat → Int32) × (Nat → Int32) × (Nat → Int32)) :=
  (gd s1 40).bind fun j8 => (gd l4 40).bind fun j10 => if ((upd x_isSignal j8 (vp_nar .boolean s2)) j10) = 0 then (mB_goThrough_176 N x_now k9 l2 l1 l3 l4 x_metAt x_memoryAt x_upAt x_downAt (upd x_isSignal j8 (vp_nar .boolean s2)))
  else (mB_goThrough_176 N x_now k9 0 l1 l3 l4 x_metAt x_memoryAt x_upAt x_downAt (upd x_isSignal j8 (vp_nar .boolean s2)))

def mB_goThrough_155 (N : Nat) (x_now : Nat → Int32) (k9 : Int32 → Int32 → Int32 → Int32 → (Nat → Int32) → (Nat → Int32) → (Nat → Int32) → (Nat → Int32) → (Nat → Int32) → Option ((Nat → Int32) × (Nat → Int32) × (Nat → Int32) × (Nat → Int32) × (Nat → Int32))) (s1 : Int32) (l1 : Int32) (l2 : Int32) (l3 : Int32) (l4 : Int32) (x_metAt : Nat → Int32) (x_memoryAt : Nat → Int32) (x_upAt : Nat → Int32) (x_downAt : Nat → Int32) (x_isSignal : Nat → Int32) : Option ((Nat → Int32) × (Nat → Int32) × (Nat → Int32) × (Nat → Int32) × (Nat → Int32)) :=
  mB_goThrough_160 N x_now k9 s1 1 l1 l2 l3 l4 x_metAt x_memoryAt x_upAt x_downAt x_isSignal

def mB_goThrough_126 (N : Nat) (x_now : Nat → Int32) (k9 : Int32 → Int32 → Int32 → Int32 → (Nat → Int32) → (Nat → Int32) → (Nat → Int32) → (Nat → Int32) → (Nat → Int32) → Option ((Nat → Int32) × (Nat → Int32) × (Nat → Int32) × (Nat → Int32) × (Nat → Int32))) (s0 : Int32) (l1 : Int32) (l2 : Int32) (l4 : Int32) (x_metAt : Nat → Int32) (x_memoryAt : Nat → Int32) (x_upAt : Nat → Int32) (x_downAt : Nat → Int32) (x_isSignal : Nat → Int32) : Option ((Nat → Int32) × (Nat → Int32) × (Nat → Int32) × (Nat → Int32) × (Nat → Int32)) :=
  if (x_now 16) < l2 then (mB_goThrough_155 N x_now k9 l4 l1 l2 s0 l4 x_metAt x_memoryAt x_upAt x_downAt x_isSignal)
  else (if s0 ≤ (x_now 16) then (mB_goThrough_160 N x_now k9 l4 0 l1 l2 s0 l4 x_metAt x_memoryAt x_upAt x_downAt x_isSignal)
  else (mB_goThrough_155 N x_now k9 l4 l1 l2 s0 l4 x_metAt x_memoryAt x_upAt x_downAt x_isSignal))

def mB_goThrough_116 (N : Nat) (x_now : Nat → Int32) (k9 : Int32 → Int32 → Int32 → Int32 → (Nat → Int32) → (Nat → Int32) → (Nat → Int32) → (Nat → Int32) → (Nat → Int32) → Option ((Nat → Int32) × (Nat → Int32) × (Nat → Int32) × (Nat → Int32) × (Nat → Int32))) (s0 : Int32) (l1 : Int32) (l3 : Int32) (l4 : Int32) (x_metAt : Nat → Int32) (x_memoryAt : Nat → Int32) (x_upAt : Nat → Int32) (x_downAt : Nat → Int32) (x_isSignal : Nat → Int32) : Option ((Nat → Int32) × (Nat → Int32) × (Nat → Int32) × (Nat → Int32) × (Nat → Int32)) :=
  if 0 ≤ l3 then (mB_goThrough_126 N x_now k9 l3 l1 s0 l4 x_metAt x_memoryAt x_upAt x_downAt x_isSignal)
  else (mB_goThrough_126 N x_now k9 0 l1 s0 l4 x_metAt x_memoryAt x_upAt x_downAt x_isSignal)

def mB_goThrough_68 (N : Nat) (x_now : Nat → Int32) (k9 : Int32 → Int32 → Int32 → Int32 → (Nat → Int32) → (Nat → Int32) → (Nat → Int32) → (Nat → Int32) → (Nat → Int32) → Option ((Nat → Int32) × (Nat → Int32) × (Nat → Int32) × (Nat → Int32) × (Nat → Int32))) (s0 : Int32) (l2 : Int32) (l3 : Int32) (l4 : Int32) (l5 : Int32) (x_metAt : Nat → Int32) (x_memoryAt : Nat → Int32) (x_upAt : Nat → Int32) (x_downAt : Nat → Int32) (x_isSignal : Nat → Int32) : Option ((Nat → Int32) × (Nat → Int32) × (Nat → Int32) × (Nat → Int32) × (Nat → Int32)) :=
  (gd l4 40).bind fun j16 => if 0 ≤ (l2 + ((l5 - 2) - (x_now 15))) then (mB_goThrough_116 N x_now k9 (l2 + ((l5 - 2) - (x_now 15))) s0 (l3 + ((2 - l5) - (x_now 15))) l4 x_metAt (upd x_memoryAt j16 s0) x_upAt x_downAt x_isSignal)
  else (mB_goThrough_116 N x_now k9 0 s0 (l3 + ((2 - l5) - (x_now 15))) l4 x_metAt (upd x_memoryAt j16 s0) x_upAt x_downAt x_isSignal)

def mL_goThrough_9 (N : Nat) (x_now : Nat → Int32)  : Nat → Int32 → Int32 → Int32 → Int32 → (Nat → Int32) → (Nat → Int32) → (Nat → Int32) → (Nat → Int32) → (Nat → Int32) → Option ((Nat → Int32) × (Nat → Int32) × (Nat → Int32) × (Nat → Int32) × (Nat → Int32))
  | 0, _, _, _, _, _, _, _, _, _ => none
  | n + 1, l1, l2, l3, l4, x_metAt, x_memoryAt, x_upAt, x_downAt, x_isSignal =>
  if (x_now 17) ≤ l4 then (some (x_metAt, x_memoryAt, x_upAt, x_downAt, x_isSignal))
  else ((gd (58 + l4) 98).bind fun j20 => (mF_metBy N x_now l1 (x_now j20)).bind fun y22 => (gd l4 40).bind fun j24 => (gd l4 40).bind fun j26 => if ((upd x_metAt j24 y22) j26) = 0 then ((mF_nextBy N x_now l1 (x_now j20)).bind fun y29 => mB_goThrough_68 N x_now (mL_goThrough_9 N x_now n) y29 l2 l3 l4 (x_now j20) (upd x_metAt j24 y22) x_memoryAt x_upAt x_downAt x_isSignal)
  else (mB_goThrough_68 N x_now (mL_goThrough_9 N x_now n) 0 l2 l3 l4 (x_now j20) (upd x_metAt j24 y22) x_memoryAt x_upAt x_downAt x_isSignal))

def mF_goThrough (N : Nat) (x_now : Nat → Int32)  (x_metAt : Nat → Int32) (x_memoryAt : Nat → Int32) (x_upAt : Nat → Int32) (x_downAt : Nat → Int32) (x_isSignal : Nat → Int32) : Option ((Nat → Int32) × (Nat → Int32) × (Nat → Int32) × (Nat → Int32) × (Nat → Int32)) :=
  mL_goThrough_9 N x_now N 0 0 0 0 x_metAt x_memoryAt x_upAt x_downAt x_isSignal

/-! placeFor -/
def mB_placeFor_41 (N : Nat)   (l1 : Int32) (x_memories : Nat → Int32) (x_placeOf : Nat → Int32) (x_places : Int32) : Option (Int32 × (Nat → Int32) × (Nat → Int32) × Int32) :=
  (gd l1 64).bind fun j1 => some (x_placeOf j1, x_memories, x_placeOf, x_places)

def mF_placeFor (N : Nat)  (a0 : Int32) (x_memories : Nat → Int32) (x_placeOf : Nat → Int32) (x_places : Int32) : Option (Int32 × (Nat → Int32) × (Nat → Int32) × Int32) :=
  (gd a0 64).bind fun j3 => if (x_placeOf j3) = (-9) then ((gd a0 64).bind fun j6 => (gd x_places 64).bind fun j8 => mB_placeFor_41 N a0 (upd x_memories j8 a0) (upd x_placeOf j6 x_places) (x_places + 1))
  else (mB_placeFor_41 N a0 x_memories x_placeOf x_places)

/-! findMemories -/
def mB_findMemories_93 (N : Nat) (x_now : Nat → Int32) (k35 : Int32 → (Nat → Int32) → (Nat → Int32) → (Nat → Int32) → Int32 → Option ((Nat → Int32) × (Nat → Int32) × (Nat → Int32) × Int32)) (k45 : Int32 → Int32 → (Nat → Int32) → (Nat → Int32) → (Nat → Int32) → Int32 → Option ((Nat → Int32) × (Nat → Int32) × (Nat → Int32) × Int32)) (s1 : Int32) (s2 : Int32) (l2 : Int32) (l3 : Int32) (x_memories : Nat → Int32) (x_placeOf : Nat → Int32) (x_nextPlace : Nat → Int32) (x_places : Int32) : Option ((Nat → Int32) × (Nat → Int32) × (Nat → Int32) × Int32) :=
  (gd s1 320).bind fun j1 => k45 l2 (l3 + 1) x_memories x_placeOf (upd x_nextPlace j1 s2) x_places

def mL_findMemories_45 (N : Nat) (x_now : Nat → Int32) (k35 : Int32 → (Nat → Int32) → (Nat → Int32) → (Nat → Int32) → Int32 → Option ((Nat → Int32) × (Nat → Int32) × (Nat → Int32) × Int32)) : Nat → Int32 → Int32 → (Nat → Int32) → (Nat → Int32) → (Nat → Int32) → Int32 → Option ((Nat → Int32) × (Nat → Int32) × (Nat → Int32) × Int32)
  | 0, _, _, _, _, _, _ => none
  | n + 1, l2, l3, x_memories, x_placeOf, x_nextPlace, x_places =>
  if 5 ≤ l3 then (k35 (l2 + 1) x_memories x_placeOf x_nextPlace x_places)
  else ((gd l2 64).bind fun j4 => (mF_metBy N x_now (x_memories j4) l3).bind fun y6 => if y6 = 0 then ((mF_nextBy N x_now (x_memories j4) l3).bind fun y9 => (mF_placeFor N y9 x_memories x_placeOf x_places).bind fun y11 => mB_findMemories_93 N x_now k35 (mL_findMemories_45 N x_now k35 n) ((5 * l2) + l3) y11.1 l2 l3 y11.2.1 y11.2.2.1 x_nextPlace y11.2.2.2)
  else (mB_findMemories_93 N x_now k35 (mL_findMemories_45 N x_now k35 n) ((5 * l2) + l3) (-5) l2 l3 x_memories x_placeOf x_nextPlace x_places))

def mL_findMemories_35 (N : Nat) (x_now : Nat → Int32)  : Nat → Int32 → (Nat → Int32) → (Nat → Int32) → (Nat → Int32) → Int32 → Option ((Nat → Int32) × (Nat → Int32) × (Nat → Int32) × Int32)
  | 0, _, _, _, _, _ => none
  | n + 1, l2, x_memories, x_placeOf, x_nextPlace, x_places =>
  if x_places ≤ l2 then (some (x_memories, x_placeOf, x_nextPlace, x_places))
  else (mL_findMemories_45 N x_now (mL_findMemories_35 N x_now n) N l2 0 x_memories x_placeOf x_nextPlace x_places)

def mL_findMemories_2 (N : Nat) (x_now : Nat → Int32)  : Nat → Int32 → (Nat → Int32) → (Nat → Int32) → (Nat → Int32) → Int32 → Option ((Nat → Int32) × (Nat → Int32) × (Nat → Int32) × Int32)
  | 0, _, _, _, _, _ => none
  | n + 1, l1, x_memories, x_placeOf, x_nextPlace, x_places =>
  if 64 ≤ l1 then ((mF_placeFor N 0 x_memories x_placeOf 0).bind fun y15 => mL_findMemories_35 N x_now N y15.1 y15.2.1 y15.2.2.1 x_nextPlace y15.2.2.2)
  else ((gd l1 64).bind fun j17 => (mL_findMemories_2 N x_now n) (l1 + 1) x_memories (upd x_placeOf j17 (-9)) x_nextPlace x_places)

def mF_findMemories (N : Nat) (x_now : Nat → Int32)  (x_memories : Nat → Int32) (x_placeOf : Nat → Int32) (x_nextPlace : Nat → Int32) (x_places : Int32) : Option ((Nat → Int32) × (Nat → Int32) × (Nat → Int32) × Int32) :=
  mL_findMemories_2 N x_now N 0 x_memories x_placeOf x_nextPlace x_places

/-! kindBehind -/
def mB_kindBehind_28 (N : Nat) (x_nextPlace : Nat → Int32) (x_kindOf : Nat → Int32)  (s0 : Int32) : Option (Int32) :=
  some s0

def mF_kindBehind (N : Nat) (x_nextPlace : Nat → Int32) (x_kindOf : Nat → Int32) (a0 : Int32) (a1 : Int32)  : Option (Int32) :=
  (gd ((5 * a0) + a1) 320).bind fun j1 => if (x_nextPlace j1) = (-5) then (mB_kindBehind_28 N x_nextPlace x_kindOf (-5))
  else ((gd (x_nextPlace j1) 64).bind fun j4 => mB_kindBehind_28 N x_nextPlace x_kindOf (x_kindOf j4))

/-! areLike -/
def mB_areLike_63 (N : Nat) (x_nextPlace : Nat → Int32) (x_kindOf : Nat → Int32)  (l3 : Int32) : Option (Int32) :=
  if l3 = 0 ∨ l3 = 1 then some l3 else none

def mB_areLike_56 (N : Nat) (x_nextPlace : Nat → Int32) (x_kindOf : Nat → Int32) (k24 : Int32 → Int32 → Int32 → Int32 → Option (Int32)) (s0 : Int32) (l1 : Int32) (l2 : Int32) (l4 : Int32) : Option (Int32) :=
  k24 l1 l2 s0 (l4 + 1)

def mL_areLike_24 (N : Nat) (x_nextPlace : Nat → Int32) (x_kindOf : Nat → Int32)  : Nat → Int32 → Int32 → Int32 → Int32 → Option (Int32)
  | 0, _, _, _, _ => none
  | n + 1, l1, l2, l3, l4 =>
  if 5 ≤ l4 then (mB_areLike_63 N x_nextPlace x_kindOf l3)
  else (if l3 = 0 then (mB_areLike_63 N x_nextPlace x_kindOf l3)
  else ((mF_kindBehind N x_nextPlace x_kindOf l1 l4).bind fun y4 => (mF_kindBehind N x_nextPlace x_kindOf l2 l4).bind fun y6 => if y4 = y6 then (mB_areLike_56 N x_nextPlace x_kindOf (mL_areLike_24 N x_nextPlace x_kindOf n) 1 l1 l2 l4)
  else (mB_areLike_56 N x_nextPlace x_kindOf (mL_areLike_24 N x_nextPlace x_kindOf n) 0 l1 l2 l4)))

def mB_areLike_20 (N : Nat) (x_nextPlace : Nat → Int32) (x_kindOf : Nat → Int32)  (s0 : Int32) (l1 : Int32) (l2 : Int32) : Option (Int32) :=
  mL_areLike_24 N x_nextPlace x_kindOf N l1 l2 s0 0

def mF_areLike (N : Nat) (x_nextPlace : Nat → Int32) (x_kindOf : Nat → Int32) (a0 : Int32) (a1 : Int32)  : Option (Int32) :=
  (gd a0 64).bind fun j9 => (gd a1 64).bind fun j11 => if (x_kindOf j9) = (x_kindOf j11) then (mB_areLike_20 N x_nextPlace x_kindOf 1 a0 a1)
  else (mB_areLike_20 N x_nextPlace x_kindOf 0 a0 a1)

/-! findKinds -/
def mL_findKinds_144 (N : Nat) (x_nextPlace : Nat → Int32) (x_places : Int32) (k30 : Int32 → (Nat → Int32) → (Nat → Int32) → Int32 → Option ((Nat → Int32) × (Nat → Int32) × Int32)) : Nat → Int32 → Int32 → (Nat → Int32) → (Nat → Int32) → Int32 → Option ((Nat → Int32) × (Nat → Int32) × Int32)
  | 0, _, _, _, _, _ => none
  | n + 1, l1, l2, x_kindOf, x_newKind, x_kinds =>
  if x_places ≤ l2 then (k30 l1 x_kindOf x_newKind x_kinds)
  else ((gd l2 64).bind fun j2 => (gd l2 64).bind fun j4 => (mL_findKinds_144 N x_nextPlace x_places k30 n) l1 (l2 + 1) (upd x_kindOf j4 (x_newKind j2)) x_newKind x_kinds)

def mB_findKinds_132 (N : Nat) (x_nextPlace : Nat → Int32) (x_places : Int32) (k30 : Int32 → (Nat → Int32) → (Nat → Int32) → Int32 → Option ((Nat → Int32) × (Nat → Int32) × Int32)) (k50 : Int32 → Int32 → (Nat → Int32) → (Nat → Int32) → Int32 → Option ((Nat → Int32) × (Nat → Int32) × Int32)) (s1 : Int32) (s2 : Int32) (l1 : Int32) (l2 : Int32) (x_kindOf : Nat → Int32) (x_newKind : Nat → Int32) (x_kinds : Int32) : Option ((Nat → Int32) × (Nat → Int32) × Int32) :=
  k50 l1 (l2 + 1) x_kindOf x_newKind (s1 + s2)

def mB_findKinds_116 (N : Nat) (x_nextPlace : Nat → Int32) (x_places : Int32) (k30 : Int32 → (Nat → Int32) → (Nat → Int32) → Int32 → Option ((Nat → Int32) × (Nat → Int32) × Int32)) (k50 : Int32 → Int32 → (Nat → Int32) → (Nat → Int32) → Int32 → Option ((Nat → Int32) × (Nat → Int32) × Int32)) (s1 : Int32) (s2 : Int32) (l1 : Int32) (l2 : Int32) (l3 : Int32) (x_kindOf : Nat → Int32) (x_newKind : Nat → Int32) (x_kinds : Int32) : Option ((Nat → Int32) × (Nat → Int32) × Int32) :=
  (gd s1 64).bind fun j6 => if l3 = l2 then (mB_findKinds_132 N x_nextPlace x_places k30 k50 x_kinds 1 l1 l2 x_kindOf (upd x_newKind j6 s2) x_kinds)
  else (mB_findKinds_132 N x_nextPlace x_places k30 k50 x_kinds 0 l1 l2 x_kindOf (upd x_newKind j6 s2) x_kinds)

def mB_findKinds_86 (N : Nat) (x_nextPlace : Nat → Int32) (x_places : Int32) (k30 : Int32 → (Nat → Int32) → (Nat → Int32) → Int32 → Option ((Nat → Int32) × (Nat → Int32) × Int32)) (k50 : Int32 → Int32 → (Nat → Int32) → (Nat → Int32) → Int32 → Option ((Nat → Int32) × (Nat → Int32) × Int32)) (k65 : Int32 → Int32 → Int32 → Int32 → (Nat → Int32) → (Nat → Int32) → Int32 → Option ((Nat → Int32) × (Nat → Int32) × Int32)) (s0 : Int32) (l1 : Int32) (l2 : Int32) (l4 : Int32) (x_kindOf : Nat → Int32) (x_newKind : Nat → Int32) (x_kinds : Int32) : Option ((Nat → Int32) × (Nat → Int32) × Int32) :=
  k65 l1 l2 s0 (l4 + (-1)) x_kindOf x_newKind x_kinds

def mL_findKinds_65 (N : Nat) (x_nextPlace : Nat → Int32) (x_places : Int32) (k30 : Int32 → (Nat → Int32) → (Nat → Int32) → Int32 → Option ((Nat → Int32) × (Nat → Int32) × Int32)) (k50 : Int32 → Int32 → (Nat → Int32) → (Nat → Int32) → Int32 → Option ((Nat → Int32) × (Nat → Int32) × Int32)) : Nat → Int32 → Int32 → Int32 → Int32 → (Nat → Int32) → (Nat → Int32) → Int32 → Option ((Nat → Int32) × (Nat → Int32) × Int32)
  | 0, _, _, _, _, _, _, _ => none
  | n + 1, l1, l2, l3, l4, x_kindOf, x_newKind, x_kinds =>
  if l4 < 0 then (if l3 = l2 then (mB_findKinds_116 N x_nextPlace x_places k30 k50 l2 x_kinds l1 l2 l3 x_kindOf x_newKind x_kinds)
  else ((gd l3 64).bind fun j11 => mB_findKinds_116 N x_nextPlace x_places k30 k50 l2 (x_newKind j11) l1 l2 l3 x_kindOf x_newKind x_kinds))
  else ((mF_areLike N x_nextPlace x_kindOf l2 l4).bind fun y13 => if y13 = 0 then (mB_findKinds_86 N x_nextPlace x_places k30 k50 (mL_findKinds_65 N x_nextPlace x_places k30 k50 n) l3 l1 l2 l4 x_kindOf x_newKind x_kinds)
  else (mB_findKinds_86 N x_nextPlace x_places k30 k50 (mL_findKinds_65 N x_nextPlace x_places k30 k50 n) l4 l1 l2 l4 x_kindOf x_newKind x_kinds))

def mL_findKinds_50 (N : Nat) (x_nextPlace : Nat → Int32) (x_places : Int32) (k30 : Int32 → (Nat → Int32) → (Nat → Int32) → Int32 → Option ((Nat → Int32) × (Nat → Int32) × Int32)) : Nat → Int32 → Int32 → (Nat → Int32) → (Nat → Int32) → Int32 → Option ((Nat → Int32) × (Nat → Int32) × Int32)
  | 0, _, _, _, _, _ => none
  | n + 1, l1, l2, x_kindOf, x_newKind, x_kinds =>
  if x_places ≤ l2 then (mL_findKinds_144 N x_nextPlace x_places k30 N l1 0 x_kindOf x_newKind x_kinds)
  else (mL_findKinds_65 N x_nextPlace x_places k30 (mL_findKinds_50 N x_nextPlace x_places k30 n) N l1 l2 l2 (l2 - 1) x_kindOf x_newKind x_kinds)

def mL_findKinds_30 (N : Nat) (x_nextPlace : Nat → Int32) (x_places : Int32)  : Nat → Int32 → (Nat → Int32) → (Nat → Int32) → Int32 → Option ((Nat → Int32) × (Nat → Int32) × Int32)
  | 0, _, _, _, _ => none
  | n + 1, l1, x_kindOf, x_newKind, x_kinds =>
  if x_kinds = l1 then (some (x_kindOf, x_newKind, x_kinds))
  else (mL_findKinds_50 N x_nextPlace x_places (mL_findKinds_30 N x_nextPlace x_places n) N x_kinds 0 x_kindOf x_newKind 0)

def mL_findKinds_2 (N : Nat) (x_nextPlace : Nat → Int32) (x_places : Int32)  : Nat → Int32 → (Nat → Int32) → (Nat → Int32) → Int32 → Option ((Nat → Int32) × (Nat → Int32) × Int32)
  | 0, _, _, _, _ => none
  | n + 1, l1, x_kindOf, x_newKind, x_kinds =>
  if x_places ≤ l1 then (mL_findKinds_30 N x_nextPlace x_places N 0 x_kindOf x_newKind 1)
  else ((gd l1 64).bind fun j19 => (mL_findKinds_2 N x_nextPlace x_places n) (l1 + 1) (upd x_kindOf j19 0) x_newKind x_kinds)

def mF_findKinds (N : Nat) (x_nextPlace : Nat → Int32) (x_places : Int32)  (x_kindOf : Nat → Int32) (x_newKind : Nat → Int32) (x_kinds : Int32) : Option ((Nat → Int32) × (Nat → Int32) × Int32) :=
  mL_findKinds_2 N x_nextPlace x_places N 0 x_kindOf x_newKind x_kinds

/-! stateFor -/
def mB_stateFor_48 (N : Nat) (x_kindOf : Nat → Int32)  (l2 : Int32) (x_stateOfKind : Nat → Int32) (x_stateAt : Nat → Int32) (x_states : Int32) : Option (Int32 × (Nat → Int32) × (Nat → Int32) × Int32) :=
  (gd l2 64).bind fun j1 => some (x_stateOfKind j1, x_stateOfKind, x_stateAt, x_states)

def mF_stateFor (N : Nat) (x_kindOf : Nat → Int32) (a0 : Int32) (x_stateOfKind : Nat → Int32) (x_stateAt : Nat → Int32) (x_states : Int32) : Option (Int32 × (Nat → Int32) × (Nat → Int32) × Int32) :=
  (gd a0 64).bind fun j3 => (gd (x_kindOf j3) 64).bind fun j5 => if (x_stateOfKind j5) = (-9) then ((gd (x_kindOf j3) 64).bind fun j8 => (gd x_states 64).bind fun j10 => mB_stateFor_48 N x_kindOf (x_kindOf j3) (upd x_stateOfKind j8 x_states) (upd x_stateAt j10 a0) (x_states + 1))
  else (mB_stateFor_48 N x_kindOf (x_kindOf j3) x_stateOfKind x_stateAt x_states)

/-! build -/
def mB_build_102 (N : Nat) (x_now : Nat → Int32) (k43 : Int32 → (Nat → Int32) → (Nat → Int32) → (Nat → Int32) → Int32 → (Nat → Int32) → (Nat → Int32) → Int32 → (Nat → Int32) → (Nat → Int32) → (Nat → Int32) → Int32 → Option ((Nat → Int32) × (Nat → Int32) × (Nat → Int32) × Int32 × (Nat → Int32) × (Nat → Int32) × Int32 × (Nat → Int32) × (Nat → Int32) × (Nat → Int32) × Int32)) (k53 : Int32 → Int32 → (Nat → Int32) → (Nat → Int32) → (Nat → Int32) → Int32 → (Nat → Int32) → (Nat → Int32) → Int32 → (Nat → Int32) → (Nat → Int32) → (Nat → Int32) → Int32 → Option ((Nat → Int32) × (Nat → Int32) × (Nat → Int32) × Int32 × (Nat → Int32) × (Nat → Int32) × Int32 × (Nat → Int32) × (Nat → Int32) × (Nat → Int32) × Int32)) (s1 : Int32) (s2 : Int32) (l2 : Int32) (l3 : Int32) (x_memories : Nat → Int32) (x_placeOf : Nat → Int32) (x_nextPlace : Nat → Int32) (x_places : Int32) (x_kindOf : Nat → Int32) (x_newKind : Nat → Int32) (x_kinds : Int32) (x_stateOfKind : Nat → Int32) (x_stateAt : Nat → Int32) (x_stepTo : Nat → Int32) (x_states : Int32) : Option ((Nat → Int32) × (Nat → Int32) × (Nat → Int32) × Int32 × (Nat → Int32) × (Nat → Int32) × Int32 × (Nat → Int32) × (Nat → Int32) × (Nat → Int32) × Int32) :=
  (gd s1 320).bind fun j1 => k53 l2 (l3 + 1) x_memories x_placeOf x_nextPlace x_places x_kindOf x_newKind x_kinds x_stateOfKind x_stateAt (upd x_stepTo j1 s2) x_states

def mL_build_53 (N : Nat) (x_now : Nat → Int32) (k43 : Int32 → (Nat → Int32) → (Nat → Int32) → (Nat → Int32) → Int32 → (Nat → Int32) → (Nat → Int32) → Int32 → (Nat → Int32) → (Nat → Int32) → (Nat → Int32) → Int32 → Option ((Nat → Int32) × (Nat → Int32) × (Nat → Int32) × Int32 × (Nat → Int32) × (Nat → Int32) × Int32 × (Nat → Int32) × (Nat → Int32) × (Nat → Int32) × Int32)) : Nat → Int32 → Int32 → (Nat → Int32) → (Nat → Int32) → (Nat → Int32) → Int32 → (Nat → Int32) → (Nat → Int32) → Int32 → (Nat → Int32) → (Nat → Int32) → (Nat → Int32) → Int32 → Option ((Nat → Int32) × (Nat → Int32) × (Nat → Int32) × Int32 × (Nat → Int32) × (Nat → Int32) × Int32 × (Nat → Int32) × (Nat → Int32) × (Nat → Int32) × Int32)
  | 0, _, _, _, _, _, _, _, _, _, _, _, _, _ => none
  | n + 1, l2, l3, x_memories, x_placeOf, x_nextPlace, x_places, x_kindOf, x_newKind, x_kinds, x_stateOfKind, x_stateAt, x_stepTo, x_states =>
  if 5 ≤ l3 then (k43 (l2 + 1) x_memories x_placeOf x_nextPlace x_places x_kindOf x_newKind x_kinds x_stateOfKind x_stateAt x_stepTo x_states)
  else ((gd l2 64).bind fun j4 => (gd ((5 * (x_stateAt j4)) + l3) 320).bind fun j6 => if (x_nextPlace j6) = (-5) then (mB_build_102 N x_now k43 (mL_build_53 N x_now k43 n) ((5 * l2) + l3) (-5) l2 l3 x_memories x_placeOf x_nextPlace x_places x_kindOf x_newKind x_kinds x_stateOfKind x_stateAt x_stepTo x_states)
  else ((mF_stateFor N x_kindOf (x_nextPlace j6) x_stateOfKind x_stateAt x_states).bind fun y9 => mB_build_102 N x_now k43 (mL_build_53 N x_now k43 n) ((5 * l2) + l3) y9.1 l2 l3 x_memories x_placeOf x_nextPlace x_places x_kindOf x_newKind x_kinds y9.2.1 y9.2.2.1 x_stepTo y9.2.2.2))

def mL_build_43 (N : Nat) (x_now : Nat → Int32)  : Nat → Int32 → (Nat → Int32) → (Nat → Int32) → (Nat → Int32) → Int32 → (Nat → Int32) → (Nat → Int32) → Int32 → (Nat → Int32) → (Nat → Int32) → (Nat → Int32) → Int32 → Option ((Nat → Int32) × (Nat → Int32) × (Nat → Int32) × Int32 × (Nat → Int32) × (Nat → Int32) × Int32 × (Nat → Int32) × (Nat → Int32) × (Nat → Int32) × Int32)
  | 0, _, _, _, _, _, _, _, _, _, _, _, _ => none
  | n + 1, l2, x_memories, x_placeOf, x_nextPlace, x_places, x_kindOf, x_newKind, x_kinds, x_stateOfKind, x_stateAt, x_stepTo, x_states =>
  if x_states ≤ l2 then (some (x_memories, x_placeOf, x_nextPlace, x_places, x_kindOf, x_newKind, x_kinds, x_stateOfKind, x_stateAt, x_stepTo, x_states))
  else (mL_build_53 N x_now (mL_build_43 N x_now n) N l2 0 x_memories x_placeOf x_nextPlace x_places x_kindOf x_newKind x_kinds x_stateOfKind x_stateAt x_stepTo x_states)

def mL_build_10 (N : Nat) (x_now : Nat → Int32)  : Nat → Int32 → (Nat → Int32) → (Nat → Int32) → (Nat → Int32) → Int32 → (Nat → Int32) → (Nat → Int32) → Int32 → (Nat → Int32) → (Nat → Int32) → (Nat → Int32) → Int32 → Option ((Nat → Int32) × (Nat → Int32) × (Nat → Int32) × Int32 × (Nat → Int32) × (Nat → Int32) × Int32 × (Nat → Int32) × (Nat → Int32) × (Nat → Int32) × Int32)
  | 0, _, _, _, _, _, _, _, _, _, _, _, _ => none
  | n + 1, l1, x_memories, x_placeOf, x_nextPlace, x_places, x_kindOf, x_newKind, x_kinds, x_stateOfKind, x_stateAt, x_stepTo, x_states =>
  if 64 ≤ l1 then ((mF_stateFor N x_kindOf 0 x_stateOfKind x_stateAt 0).bind fun y13 => mL_build_43 N x_now N y13.1 x_memories x_placeOf x_nextPlace x_places x_kindOf x_newKind x_kinds y13.2.1 y13.2.2.1 x_stepTo y13.2.2.2)
  else ((gd l1 64).bind fun j15 => (mL_build_10 N x_now n) (l1 + 1) x_memories x_placeOf x_nextPlace x_places x_kindOf x_newKind x_kinds (upd x_stateOfKind j15 (-9)) x_stateAt x_stepTo x_states)

def mF_build (N : Nat) (x_now : Nat → Int32)  (x_memories : Nat → Int32) (x_placeOf : Nat → Int32) (x_nextPlace : Nat → Int32) (x_places : Int32) (x_kindOf : Nat → Int32) (x_newKind : Nat → Int32) (x_kinds : Int32) (x_stateOfKind : Nat → Int32) (x_stateAt : Nat → Int32) (x_stepTo : Nat → Int32) (x_states : Int32) : Option ((Nat → Int32) × (Nat → Int32) × (Nat → Int32) × Int32 × (Nat → Int32) × (Nat → Int32) × Int32 × (Nat → Int32) × (Nat → Int32) × (Nat → Int32) × Int32) :=
  (mF_findMemories N x_now x_memories x_placeOf x_nextPlace x_places).bind fun y17 => (mF_findKinds N y17.2.2.1 y17.2.2.2 x_kindOf x_newKind x_kinds).bind fun y19 => mL_build_10 N x_now N 0 y17.1 y17.2.1 y17.2.2.1 y17.2.2.2 y19.1 y19.2.1 y19.2.2 x_stateOfKind x_stateAt x_stepTo x_states

/-! stateOf -/
def mF_stateOf (N : Nat) (x_placeOf : Nat → Int32) (x_kindOf : Nat → Int32) (x_stateOfKind : Nat → Int32) (a0 : Int32)  : Option (Int32) :=
  (gd a0 64).bind fun j1 => (gd (x_placeOf j1) 64).bind fun j3 => (gd (x_kindOf j3) 64).bind fun j5 => some (x_stateOfKind j5)

/-! row -/
def mB_row_126 (N : Nat) (x_now : Nat → Int32)  (s0 : Int32) (x_metAt : Nat → Int32) (x_memoryAt : Nat → Int32) (x_upAt : Nat → Int32) (x_downAt : Nat → Int32) (x_isSignal : Nat → Int32) (x_memories : Nat → Int32) (x_placeOf : Nat → Int32) (x_nextPlace : Nat → Int32) (x_places : Int32) (x_kindOf : Nat → Int32) (x_newKind : Nat → Int32) (x_kinds : Int32) (x_stateOfKind : Nat → Int32) (x_stateAt : Nat → Int32) (x_stepTo : Nat → Int32) (x_states : Int32) : Option (Int32 × (Nat → Int32) × (Nat → Int32) × (Nat → Int32) × (Nat → Int32) × (Nat → Int32) × (Nat → Int32) × (Nat → Int32) × (Nat → Int32) × Int32 × (Nat → Int32) × (Nat → Int32) × Int32 × (Nat → Int32) × (Nat → Int32) × (Nat → Int32) × Int32) :=
  some (s0, x_metAt, x_memoryAt, x_upAt, x_downAt, x_isSignal, x_memories, x_placeOf, x_nextPlace, x_places, x_kindOf, x_newKind, x_kinds, x_stateOfKind, x_stateAt, x_stepTo, x_states)

def mF_row (N : Nat) (x_now : Nat → Int32) (a0 : Int32) (a1 : Int32) (x_metAt : Nat → Int32) (x_memoryAt : Nat → Int32) (x_upAt : Nat → Int32) (x_downAt : Nat → Int32) (x_isSignal : Nat → Int32) (x_memories : Nat → Int32) (x_placeOf : Nat → Int32) (x_nextPlace : Nat → Int32) (x_places : Int32) (x_kindOf : Nat → Int32) (x_newKind : Nat → Int32) (x_kinds : Int32) (x_stateOfKind : Nat → Int32) (x_stateAt : Nat → Int32) (x_stepTo : Nat → Int32) (x_states : Int32) : Option (Int32 × (Nat → Int32) × (Nat → Int32) × (Nat → Int32) × (Nat → Int32) × (Nat → Int32) × (Nat → Int32) × (Nat → Int32) × (Nat → Int32) × Int32 × (Nat → Int32) × (Nat → Int32) × Int32 × (Nat → Int32) × (Nat → Int32) × (Nat → Int32) × Int32) :=
  (mF_isRow N x_now a0).bind fun y1 => if y1 = 0 then (some ((-1), x_metAt, x_memoryAt, x_upAt, x_downAt, x_isSignal, x_memories, x_placeOf, x_nextPlace, x_places, x_kindOf, x_newKind, x_kinds, x_stateOfKind, x_stateAt, x_stepTo, x_states))
  else ((mF_goThrough N x_now x_metAt x_memoryAt x_upAt x_downAt x_isSignal).bind fun y4 => if a1 = 0 then ((gd (18 + a0) 98).bind fun j7 => some (x_now j7, y4.1, y4.2.1, y4.2.2.1, y4.2.2.2.1, y4.2.2.2.2, x_memories, x_placeOf, x_nextPlace, x_places, x_kindOf, x_newKind, x_kinds, x_stateOfKind, x_stateAt, x_stepTo, x_states))
  else (if a1 = 1 then ((gd (58 + a0) 98).bind fun j10 => some (x_now j10, y4.1, y4.2.1, y4.2.2.1, y4.2.2.2.1, y4.2.2.2.2, x_memories, x_placeOf, x_nextPlace, x_places, x_kindOf, x_newKind, x_kinds, x_stateOfKind, x_stateAt, x_stepTo, x_states))
  else (if a1 = 2 then ((gd a0 40).bind fun j13 => some (y4.1 j13, y4.1, y4.2.1, y4.2.2.1, y4.2.2.2.1, y4.2.2.2.2, x_memories, x_placeOf, x_nextPlace, x_places, x_kindOf, x_newKind, x_kinds, x_stateOfKind, x_stateAt, x_stepTo, x_states))
  else (if a1 = 3 then ((mF_build N x_now x_memories x_placeOf x_nextPlace x_places x_kindOf x_newKind x_kinds x_stateOfKind x_stateAt x_stepTo x_states).bind fun y16 => (gd a0 40).bind fun j18 => (mF_stateOf N y16.2.1 y16.2.2.2.2.1 y16.2.2.2.2.2.2.2.1 (y4.2.1 j18)).bind fun y20 => some (y20, y4.1, y4.2.1, y4.2.2.1, y4.2.2.2.1, y4.2.2.2.2, y16.1, y16.2.1, y16.2.2.1, y16.2.2.2.1, y16.2.2.2.2.1, y16.2.2.2.2.2.1, y16.2.2.2.2.2.2.1, y16.2.2.2.2.2.2.2.1, y16.2.2.2.2.2.2.2.2.1, y16.2.2.2.2.2.2.2.2.2.1, y16.2.2.2.2.2.2.2.2.2.2))
  else (if a1 = 4 then ((gd a0 40).bind fun j23 => some (y4.2.2.1 j23, y4.1, y4.2.1, y4.2.2.1, y4.2.2.2.1, y4.2.2.2.2, x_memories, x_placeOf, x_nextPlace, x_places, x_kindOf, x_newKind, x_kinds, x_stateOfKind, x_stateAt, x_stepTo, x_states))
  else (if a1 = 5 then ((gd a0 40).bind fun j26 => some (y4.2.2.2.1 j26, y4.1, y4.2.1, y4.2.2.1, y4.2.2.2.1, y4.2.2.2.2, x_memories, x_placeOf, x_nextPlace, x_places, x_kindOf, x_newKind, x_kinds, x_stateOfKind, x_stateAt, x_stepTo, x_states))
  else (if a1 = 6 then ((gd a0 40).bind fun j29 => if (y4.2.2.2.2 j29) = 0 then (mB_row_126 N x_now 0 y4.1 y4.2.1 y4.2.2.1 y4.2.2.2.1 y4.2.2.2.2 x_memories x_placeOf x_nextPlace x_places x_kindOf x_newKind x_kinds x_stateOfKind x_stateAt x_stepTo x_states)
  else (mB_row_126 N x_now 1 y4.1 y4.2.1 y4.2.2.1 y4.2.2.2.1 y4.2.2.2.2 x_memories x_placeOf x_nextPlace x_places x_kindOf x_newKind x_kinds x_stateOfKind x_stateAt x_stepTo x_states))
  else (some ((-1), y4.1, y4.2.1, y4.2.2.1, y4.2.2.2.1, y4.2.2.2.2, x_memories, x_placeOf, x_nextPlace, x_places, x_kindOf, x_newKind, x_kinds, x_stateOfKind, x_stateAt, x_stepTo, x_states)))))))))

/-! alarm -/
def mB_alarm_70 (N : Nat) (x_now : Nat → Int32)  (s0 : Int32) (x_metAt : Nat → Int32) (x_memoryAt : Nat → Int32) (x_upAt : Nat → Int32) (x_downAt : Nat → Int32) (x_isSignal : Nat → Int32) : Option (Int32 × (Nat → Int32) × (Nat → Int32) × (Nat → Int32) × (Nat → Int32) × (Nat → Int32)) :=
  some (s0, x_metAt, x_memoryAt, x_upAt, x_downAt, x_isSignal)

def mB_alarm_53 (N : Nat) (x_now : Nat → Int32) (k15 : Int32 → Int32 → Int32 → (Nat → Int32) → (Nat → Int32) → (Nat → Int32) → (Nat → Int32) → (Nat → Int32) → Option (Int32 × (Nat → Int32) × (Nat → Int32) × (Nat → Int32) × (Nat → Int32) × (Nat → Int32))) (l1 : Int32) (l2 : Int32) (l3 : Int32) (x_metAt : Nat → Int32) (x_memoryAt : Nat → Int32) (x_upAt : Nat → Int32) (x_downAt : Nat → Int32) (x_isSignal : Nat → Int32) : Option (Int32 × (Nat → Int32) × (Nat → Int32) × (Nat → Int32) × (Nat → Int32) × (Nat → Int32)) :=
  k15 l1 l2 (l3 + 1) x_metAt x_memoryAt x_upAt x_downAt x_isSignal

def mL_alarm_15 (N : Nat) (x_now : Nat → Int32)  : Nat → Int32 → Int32 → Int32 → (Nat → Int32) → (Nat → Int32) → (Nat → Int32) → (Nat → Int32) → (Nat → Int32) → Option (Int32 × (Nat → Int32) × (Nat → Int32) × (Nat → Int32) × (Nat → Int32) × (Nat → Int32))
  | 0, _, _, _, _, _, _, _, _ => none
  | n + 1, l1, l2, l3, x_metAt, x_memoryAt, x_upAt, x_downAt, x_isSignal =>
  if (x_now 17) ≤ l3 then (if l1 = (-1) then (mB_alarm_70 N x_now l2 x_metAt x_memoryAt x_upAt x_downAt x_isSignal)
  else (mB_alarm_70 N x_now (-9) x_metAt x_memoryAt x_upAt x_downAt x_isSignal))
  else ((gd l3 40).bind fun j3 => if (x_metAt j3) = 0 then (mB_alarm_53 N x_now (mL_alarm_15 N x_now n) l1 l2 l3 x_metAt x_memoryAt x_upAt x_downAt x_isSignal)
  else (if l2 = l1 then ((gd (18 + l3) 98).bind fun j7 => some (x_now j7, x_metAt, x_memoryAt, x_upAt, x_downAt, x_isSignal))
  else (mB_alarm_53 N x_now (mL_alarm_15 N x_now n) l1 (l2 + 1) l3 x_metAt x_memoryAt x_upAt x_downAt x_isSignal)))

def mF_alarm (N : Nat) (x_now : Nat → Int32) (a0 : Int32) (x_metAt : Nat → Int32) (x_memoryAt : Nat → Int32) (x_upAt : Nat → Int32) (x_downAt : Nat → Int32) (x_isSignal : Nat → Int32) : Option (Int32 × (Nat → Int32) × (Nat → Int32) × (Nat → Int32) × (Nat → Int32) × (Nat → Int32)) :=
  if (-1) ≤ a0 then ((mF_goThrough N x_now x_metAt x_memoryAt x_upAt x_downAt x_isSignal).bind fun y10 => mL_alarm_15 N x_now N a0 0 0 y10.1 y10.2.1 y10.2.2.1 y10.2.2.2.1 y10.2.2.2.2)
  else (some ((-1), x_metAt, x_memoryAt, x_upAt, x_downAt, x_isSignal))

/-! signal -/
def mB_signal_70 (N : Nat) (x_now : Nat → Int32)  (s0 : Int32) (x_metAt : Nat → Int32) (x_memoryAt : Nat → Int32) (x_upAt : Nat → Int32) (x_downAt : Nat → Int32) (x_isSignal : Nat → Int32) : Option (Int32 × (Nat → Int32) × (Nat → Int32) × (Nat → Int32) × (Nat → Int32) × (Nat → Int32)) :=
  some (s0, x_metAt, x_memoryAt, x_upAt, x_downAt, x_isSignal)

def mB_signal_53 (N : Nat) (x_now : Nat → Int32) (k15 : Int32 → Int32 → Int32 → (Nat → Int32) → (Nat → Int32) → (Nat → Int32) → (Nat → Int32) → (Nat → Int32) → Option (Int32 × (Nat → Int32) × (Nat → Int32) × (Nat → Int32) × (Nat → Int32) × (Nat → Int32))) (l1 : Int32) (l2 : Int32) (l3 : Int32) (x_metAt : Nat → Int32) (x_memoryAt : Nat → Int32) (x_upAt : Nat → Int32) (x_downAt : Nat → Int32) (x_isSignal : Nat → Int32) : Option (Int32 × (Nat → Int32) × (Nat → Int32) × (Nat → Int32) × (Nat → Int32) × (Nat → Int32)) :=
  k15 l1 l2 (l3 + 1) x_metAt x_memoryAt x_upAt x_downAt x_isSignal

def mL_signal_15 (N : Nat) (x_now : Nat → Int32)  : Nat → Int32 → Int32 → Int32 → (Nat → Int32) → (Nat → Int32) → (Nat → Int32) → (Nat → Int32) → (Nat → Int32) → Option (Int32 × (Nat → Int32) × (Nat → Int32) × (Nat → Int32) × (Nat → Int32) × (Nat → Int32))
  | 0, _, _, _, _, _, _, _, _ => none
  | n + 1, l1, l2, l3, x_metAt, x_memoryAt, x_upAt, x_downAt, x_isSignal =>
  if (x_now 17) ≤ l3 then (if l1 = (-1) then (mB_signal_70 N x_now l2 x_metAt x_memoryAt x_upAt x_downAt x_isSignal)
  else (mB_signal_70 N x_now (-9) x_metAt x_memoryAt x_upAt x_downAt x_isSignal))
  else ((gd l3 40).bind fun j3 => if (x_isSignal j3) = 0 then (mB_signal_53 N x_now (mL_signal_15 N x_now n) l1 l2 l3 x_metAt x_memoryAt x_upAt x_downAt x_isSignal)
  else (if l2 = l1 then ((gd (18 + l3) 98).bind fun j7 => some (x_now j7, x_metAt, x_memoryAt, x_upAt, x_downAt, x_isSignal))
  else (mB_signal_53 N x_now (mL_signal_15 N x_now n) l1 (l2 + 1) l3 x_metAt x_memoryAt x_upAt x_downAt x_isSignal)))

def mF_signal (N : Nat) (x_now : Nat → Int32) (a0 : Int32) (x_metAt : Nat → Int32) (x_memoryAt : Nat → Int32) (x_upAt : Nat → Int32) (x_downAt : Nat → Int32) (x_isSignal : Nat → Int32) : Option (Int32 × (Nat → Int32) × (Nat → Int32) × (Nat → Int32) × (Nat → Int32) × (Nat → Int32)) :=
  if (-1) ≤ a0 then ((mF_goThrough N x_now x_metAt x_memoryAt x_upAt x_downAt x_isSignal).bind fun y10 => mL_signal_15 N x_now N a0 0 0 y10.1 y10.2.1 y10.2.2.1 y10.2.2.2.1 y10.2.2.2.2)
  else (some ((-1), x_metAt, x_memoryAt, x_upAt, x_downAt, x_isSignal))

/-! step -/
def mB_step_39 (N : Nat) (x_now : Nat → Int32)  (s0 : Int32) (x_memories : Nat → Int32) (x_placeOf : Nat → Int32) (x_nextPlace : Nat → Int32) (x_places : Int32) (x_kindOf : Nat → Int32) (x_newKind : Nat → Int32) (x_kinds : Int32) (x_stateOfKind : Nat → Int32) (x_stateAt : Nat → Int32) (x_stepTo : Nat → Int32) (x_states : Int32) : Option (Int32 × (Nat → Int32) × (Nat → Int32) × (Nat → Int32) × Int32 × (Nat → Int32) × (Nat → Int32) × Int32 × (Nat → Int32) × (Nat → Int32) × (Nat → Int32) × Int32) :=
  some (s0, x_memories, x_placeOf, x_nextPlace, x_places, x_kindOf, x_newKind, x_kinds, x_stateOfKind, x_stateAt, x_stepTo, x_states)

def mB_step_38 (N : Nat) (x_now : Nat → Int32)  (x_memories : Nat → Int32) (x_placeOf : Nat → Int32) (x_nextPlace : Nat → Int32) (x_places : Int32) (x_kindOf : Nat → Int32) (x_newKind : Nat → Int32) (x_kinds : Int32) (x_stateOfKind : Nat → Int32) (x_stateAt : Nat → Int32) (x_stepTo : Nat → Int32) (x_states : Int32) : Option (Int32 × (Nat → Int32) × (Nat → Int32) × (Nat → Int32) × Int32 × (Nat → Int32) × (Nat → Int32) × Int32 × (Nat → Int32) × (Nat → Int32) × (Nat → Int32) × Int32) :=
  mB_step_39 N x_now (-1) x_memories x_placeOf x_nextPlace x_places x_kindOf x_newKind x_kinds x_stateOfKind x_stateAt x_stepTo x_states

def mF_step (N : Nat) (x_now : Nat → Int32) (a0 : Int32) (a1 : Int32) (x_memories : Nat → Int32) (x_placeOf : Nat → Int32) (x_nextPlace : Nat → Int32) (x_places : Int32) (x_kindOf : Nat → Int32) (x_newKind : Nat → Int32) (x_kinds : Int32) (x_stateOfKind : Nat → Int32) (x_stateAt : Nat → Int32) (x_stepTo : Nat → Int32) (x_states : Int32) : Option (Int32 × (Nat → Int32) × (Nat → Int32) × (Nat → Int32) × Int32 × (Nat → Int32) × (Nat → Int32) × Int32 × (Nat → Int32) × (Nat → Int32) × (Nat → Int32) × Int32) :=
  (mF_build N x_now x_memories x_placeOf x_nextPlace x_places x_kindOf x_newKind x_kinds x_stateOfKind x_stateAt x_stepTo x_states).bind fun y1 => (mF_in N a0 0 (y1.2.2.2.2.2.2.2.2.2.2 - 1)).bind fun y3 => if y3 = 0 then (mB_step_38 N x_now y1.1 y1.2.1 y1.2.2.1 y1.2.2.2.1 y1.2.2.2.2.1 y1.2.2.2.2.2.1 y1.2.2.2.2.2.2.1 y1.2.2.2.2.2.2.2.1 y1.2.2.2.2.2.2.2.2.1 y1.2.2.2.2.2.2.2.2.2.1 y1.2.2.2.2.2.2.2.2.2.2)
  else ((mF_isSign N a1).bind fun y6 => if y6 = 0 then (mB_step_38 N x_now y1.1 y1.2.1 y1.2.2.1 y1.2.2.2.1 y1.2.2.2.2.1 y1.2.2.2.2.2.1 y1.2.2.2.2.2.2.1 y1.2.2.2.2.2.2.2.1 y1.2.2.2.2.2.2.2.2.1 y1.2.2.2.2.2.2.2.2.2.1 y1.2.2.2.2.2.2.2.2.2.2)
  else ((gd ((5 * a0) + a1) 320).bind fun j9 => mB_step_39 N x_now (y1.2.2.2.2.2.2.2.2.2.1 j9) y1.1 y1.2.1 y1.2.2.1 y1.2.2.2.1 y1.2.2.2.2.1 y1.2.2.2.2.2.1 y1.2.2.2.2.2.2.1 y1.2.2.2.2.2.2.2.1 y1.2.2.2.2.2.2.2.2.1 y1.2.2.2.2.2.2.2.2.2.1 y1.2.2.2.2.2.2.2.2.2.2))

/-! stateNow -/
def mB_stateNow_40 (N : Nat) (x_now : Nat → Int32)  (s0 : Int32) (x_metAt : Nat → Int32) (x_memoryAt : Nat → Int32) (x_upAt : Nat → Int32) (x_downAt : Nat → Int32) (x_isSignal : Nat → Int32) (x_memories : Nat → Int32) (x_placeOf : Nat → Int32) (x_nextPlace : Nat → Int32) (x_places : Int32) (x_kindOf : Nat → Int32) (x_newKind : Nat → Int32) (x_kinds : Int32) (x_stateOfKind : Nat → Int32) (x_stateAt : Nat → Int32) (x_stepTo : Nat → Int32) (x_states : Int32) : Option (Int32 × (Nat → Int32) × (Nat → Int32) × (Nat → Int32) × (Nat → Int32) × (Nat → Int32) × (Nat → Int32) × (Nat → Int32) × (Nat → Int32) × Int32 × (Nat → Int32) × (Nat → Int32) × Int32 × (Nat → Int32) × (Nat → Int32) × (Nat → Int32) × Int32) :=
  some (s0, x_metAt, x_memoryAt, x_upAt, x_downAt, x_isSignal, x_memories, x_placeOf, x_nextPlace, x_places, x_kindOf, x_newKind, x_kinds, x_stateOfKind, x_stateAt, x_stepTo, x_states)

def mF_stateNow (N : Nat) (x_now : Nat → Int32)  (x_metAt : Nat → Int32) (x_memoryAt : Nat → Int32) (x_upAt : Nat → Int32) (x_downAt : Nat → Int32) (x_isSignal : Nat → Int32) (x_memories : Nat → Int32) (x_placeOf : Nat → Int32) (x_nextPlace : Nat → Int32) (x_places : Int32) (x_kindOf : Nat → Int32) (x_newKind : Nat → Int32) (x_kinds : Int32) (x_stateOfKind : Nat → Int32) (x_stateAt : Nat → Int32) (x_stepTo : Nat → Int32) (x_states : Int32) : Option (Int32 × (Nat → Int32) × (Nat → Int32) × (Nat → Int32) × (Nat → Int32) × (Nat → Int32) × (Nat → Int32) × (Nat → Int32) × (Nat → Int32) × Int32 × (Nat → Int32) × (Nat → Int32) × Int32 × (Nat → Int32) × (Nat → Int32) × (Nat → Int32) × Int32) :=
  (mF_goThrough N x_now x_metAt x_memoryAt x_upAt x_downAt x_isSignal).bind fun y1 => (mF_build N x_now x_memories x_placeOf x_nextPlace x_places x_kindOf x_newKind x_kinds x_stateOfKind x_stateAt x_stepTo x_states).bind fun y3 => if (x_now 17) = 0 then (mB_stateNow_40 N x_now 0 y1.1 y1.2.1 y1.2.2.1 y1.2.2.2.1 y1.2.2.2.2 y3.1 y3.2.1 y3.2.2.1 y3.2.2.2.1 y3.2.2.2.2.1 y3.2.2.2.2.2.1 y3.2.2.2.2.2.2.1 y3.2.2.2.2.2.2.2.1 y3.2.2.2.2.2.2.2.2.1 y3.2.2.2.2.2.2.2.2.2.1 y3.2.2.2.2.2.2.2.2.2.2)
  else ((gd ((x_now 17) - 1) 40).bind fun j6 => (mF_stateOf N y3.2.1 y3.2.2.2.2.1 y3.2.2.2.2.2.2.2.1 (y1.2.1 j6)).bind fun y8 => mB_stateNow_40 N x_now y8 y1.1 y1.2.1 y1.2.2.1 y1.2.2.2.1 y1.2.2.2.2 y3.1 y3.2.1 y3.2.2.1 y3.2.2.2.1 y3.2.2.2.2.1 y3.2.2.2.2.2.1 y3.2.2.2.2.2.2.1 y3.2.2.2.2.2.2.2.1 y3.2.2.2.2.2.2.2.2.1 y3.2.2.2.2.2.2.2.2.2.1 y3.2.2.2.2.2.2.2.2.2.2)

/-! farBehind -/
def mB_farBehind_27 (N : Nat) (x_stepTo : Nat → Int32) (x_far : Nat → Int32)  (s0 : Int32) : Option (Int32) :=
  some s0

def mF_farBehind (N : Nat) (x_stepTo : Nat → Int32) (x_far : Nat → Int32) (a0 : Int32) (a1 : Int32)  : Option (Int32) :=
  (gd ((5 * a0) + a1) 320).bind fun j1 => if (x_stepTo j1) = (-5) then (mB_farBehind_27 N x_stepTo x_far 0)
  else ((gd (x_stepTo j1) 64).bind fun j4 => mB_farBehind_27 N x_stepTo x_far (x_far j4))

/-! findFar -/
def mB_findFar_88 (N : Nat) (x_stepTo : Nat → Int32) (x_states : Int32) (k26 : Int32 → (Nat → Int32) → Option (Nat → Int32)) (k36 : Int32 → Int32 → (Nat → Int32) → Option (Nat → Int32)) (k46 : Int32 → Int32 → Int32 → (Nat → Int32) → Option (Nat → Int32)) (s1 : Int32) (s2 : Int32) (l1 : Int32) (l2 : Int32) (l3 : Int32) (x_far : Nat → Int32) : Option (Nat → Int32) :=
  (gd s1 64).bind fun j1 => k46 l1 l2 (l3 + 1) (upd x_far j1 s2)

def mL_findFar_46 (N : Nat) (x_stepTo : Nat → Int32) (x_states : Int32) (k26 : Int32 → (Nat → Int32) → Option (Nat → Int32)) (k36 : Int32 → Int32 → (Nat → Int32) → Option (Nat → Int32)) : Nat → Int32 → Int32 → Int32 → (Nat → Int32) → Option (Nat → Int32)
  | 0, _, _, _, _ => none
  | n + 1, l1, l2, l3, x_far =>
  if 5 ≤ l3 then (k36 l1 (l2 + 1) x_far)
  else ((mF_farBehind N x_stepTo x_far l2 l3).bind fun y4 => (gd l2 64).bind fun j6 => if (x_far j6) ≤ (y4 + 1) then ((gd l2 64).bind fun j9 => mB_findFar_88 N x_stepTo x_states k26 k36 (mL_findFar_46 N x_stepTo x_states k26 k36 n) l2 (x_far j9) l1 l2 l3 x_far)
  else (mB_findFar_88 N x_stepTo x_states k26 k36 (mL_findFar_46 N x_stepTo x_states k26 k36 n) l2 (y4 + 1) l1 l2 l3 x_far))

def mL_findFar_36 (N : Nat) (x_stepTo : Nat → Int32) (x_states : Int32) (k26 : Int32 → (Nat → Int32) → Option (Nat → Int32)) : Nat → Int32 → Int32 → (Nat → Int32) → Option (Nat → Int32)
  | 0, _, _, _ => none
  | n + 1, l1, l2, x_far =>
  if x_states ≤ l2 then (k26 (l1 + 1) x_far)
  else (mL_findFar_46 N x_stepTo x_states k26 (mL_findFar_36 N x_stepTo x_states k26 n) N l1 l2 0 x_far)

def mL_findFar_26 (N : Nat) (x_stepTo : Nat → Int32) (x_states : Int32)  : Nat → Int32 → (Nat → Int32) → Option (Nat → Int32)
  | 0, _, _ => none
  | n + 1, l1, x_far =>
  if x_states ≤ l1 then (some x_far)
  else (mL_findFar_36 N x_stepTo x_states (mL_findFar_26 N x_stepTo x_states n) N l1 0 x_far)

def mL_findFar_2 (N : Nat) (x_stepTo : Nat → Int32) (x_states : Int32)  : Nat → Int32 → (Nat → Int32) → Option (Nat → Int32)
  | 0, _, _ => none
  | n + 1, l1, x_far =>
  if x_states ≤ l1 then (mL_findFar_26 N x_stepTo x_states N 0 x_far)
  else ((gd l1 64).bind fun j14 => (mL_findFar_2 N x_stepTo x_states n) (l1 + 1) (upd x_far j14 100))

def mF_findFar (N : Nat) (x_stepTo : Nat → Int32) (x_states : Int32)  (x_far : Nat → Int32) : Option (Nat → Int32) :=
  mL_findFar_2 N x_stepTo x_states N 0 x_far

/-! soonest -/
def mB_soonest_34 (N : Nat) (x_now : Nat → Int32)  (x_metAt : Nat → Int32) (x_memoryAt : Nat → Int32) (x_upAt : Nat → Int32) (x_downAt : Nat → Int32) (x_isSignal : Nat → Int32) (x_memories : Nat → Int32) (x_placeOf : Nat → Int32) (x_nextPlace : Nat → Int32) (x_places : Int32) (x_kindOf : Nat → Int32) (x_newKind : Nat → Int32) (x_kinds : Int32) (x_stateOfKind : Nat → Int32) (x_stateAt : Nat → Int32) (x_stepTo : Nat → Int32) (x_states : Int32) (x_far : Nat → Int32) : Option (Int32 × (Nat → Int32) × (Nat → Int32) × (Nat → Int32) × (Nat → Int32) × (Nat → Int32) × (Nat → Int32) × (Nat → Int32) × (Nat → Int32) × Int32 × (Nat → Int32) × (Nat → Int32) × Int32 × (Nat → Int32) × (Nat → Int32) × (Nat → Int32) × Int32 × (Nat → Int32)) :=
  some ((-9), x_metAt, x_memoryAt, x_upAt, x_downAt, x_isSignal, x_memories, x_placeOf, x_nextPlace, x_places, x_kindOf, x_newKind, x_kinds, x_stateOfKind, x_stateAt, x_stepTo, x_states, x_far)

def mB_soonest_102 (N : Nat) (x_now : Nat → Int32) (k50 : Int32 → Int32 → Int32 → Int32 → Int32 → (Nat → Int32) → (Nat → Int32) → (Nat → Int32) → (Nat → Int32) → (Nat → Int32) → (Nat → Int32) → (Nat → Int32) → (Nat → Int32) → Int32 → (Nat → Int32) → (Nat → Int32) → Int32 → (Nat → Int32) → (Nat → Int32) → (Nat → Int32) → Int32 → (Nat → Int32) → Option (Int32 × (Nat → Int32) × (Nat → Int32) × (Nat → Int32) × (Nat → Int32) × (Nat → Int32) × (Nat → Int32) × (Nat → Int32) × (Nat → Int32) × Int32 × (Nat → Int32) × (Nat → Int32) × Int32 × (Nat → Int32) × (Nat → Int32) × (Nat → Int32) × Int32 × (Nat → Int32))) (s0 : Int32) (l1 : Int32) (l3 : Int32) (l4 : Int32) (l5 : Int32) (x_metAt : Nat → Int32) (x_memoryAt : Nat → Int32) (x_upAt : Nat → Int32) (x_downAt : Nat → Int32) (x_isSignal : Nat → Int32) (x_memories : Nat → Int32) (x_placeOf : Nat → Int32) (x_nextPlace : Nat → Int32) (x_places : Int32) (x_kindOf : Nat → Int32) (x_newKind : Nat → Int32) (x_kinds : Int32) (x_stateOfKind : Nat → Int32) (x_stateAt : Nat → Int32) (x_stepTo : Nat → Int32) (x_states : Int32) (x_far : Nat → Int32) : Option (Int32 × (Nat → Int32) × (Nat → Int32) × (Nat → Int32) × (Nat → Int32) × (Nat → Int32) × (Nat → Int32) × (Nat → Int32) × (Nat → Int32) × Int32 × (Nat → Int32) × (Nat → Int32) × Int32 × (Nat → Int32) × (Nat → Int32) × (Nat → Int32) × Int32 × (Nat → Int32)) :=
  k50 l1 s0 l3 l4 (l5 + 1) x_metAt x_memoryAt x_upAt x_downAt x_isSignal x_memories x_placeOf x_nextPlace x_places x_kindOf x_newKind x_kinds x_stateOfKind x_stateAt x_stepTo x_states x_far

def mL_soonest_59 (N : Nat) (x_now : Nat → Int32) (k50 : Int32 → Int32 → Int32 → Int32 → Int32 → (Nat → Int32) → (Nat → Int32) → (Nat → Int32) → (Nat → Int32) → (Nat → Int32) → (Nat → Int32) → (Nat → Int32) → (Nat → Int32) → Int32 → (Nat → Int32) → (Nat → Int32) → Int32 → (Nat → Int32) → (Nat → Int32) → (Nat → Int32) → Int32 → (Nat → Int32) → Option (Int32 × (Nat → Int32) × (Nat → Int32) × (Nat → Int32) × (Nat → Int32) × (Nat → Int32) × (Nat → Int32) × (Nat → Int32) × (Nat → Int32) × Int32 × (Nat → Int32) × (Nat → Int32) × Int32 × (Nat → Int32) × (Nat → Int32) × (Nat → Int32) × Int32 × (Nat → Int32))) : Nat → Int32 → Int32 → Int32 → Int32 → Int32 → (Nat → Int32) → (Nat → Int32) → (Nat → Int32) → (Nat → Int32) → (Nat → Int32) → (Nat → Int32) → (Nat → Int32) → (Nat → Int32) → Int32 → (Nat → Int32) → (Nat → Int32) → Int32 → (Nat → Int32) → (Nat → Int32) → (Nat → Int32) → Int32 → (Nat → Int32) → Option (Int32 × (Nat → Int32) × (Nat → Int32) × (Nat → Int32) × (Nat → Int32) × (Nat → Int32) × (Nat → Int32) × (Nat → Int32) × (Nat → Int32) × Int32 × (Nat → Int32) × (Nat → Int32) × Int32 × (Nat → Int32) × (Nat → Int32) × (Nat → Int32) × Int32 × (Nat → Int32))
  | 0, _, _, _, _, _, _, _, _, _, _, _, _, _, _, _, _, _, _, _, _, _, _ => none
  | n + 1, l1, l2, l3, l4, l5, x_metAt, x_memoryAt, x_upAt, x_downAt, x_isSignal, x_memories, x_placeOf, x_nextPlace, x_places, x_kindOf, x_newKind, x_kinds, x_stateOfKind, x_stateAt, x_stepTo, x_states, x_far =>
  (mF_farBehind N x_stepTo x_far l2 l4).bind fun y1 => if (y1 + 1) = (l3 - l5) then (if l1 ≤ l5 then (mB_soonest_102 N x_now k50 l2 l1 l3 l4 l5 x_metAt x_memoryAt x_upAt x_downAt x_isSignal x_memories x_placeOf x_nextPlace x_places x_kindOf x_newKind x_kinds x_stateOfKind x_stateAt x_stepTo x_states x_far)
  else ((gd ((5 * l2) + l4) 320).bind fun j5 => mB_soonest_102 N x_now k50 (x_stepTo j5) l1 l3 l4 l5 x_metAt x_memoryAt x_upAt x_downAt x_isSignal x_memories x_placeOf x_nextPlace x_places x_kindOf x_newKind x_kinds x_stateOfKind x_stateAt x_stepTo x_states x_far))
  else ((mL_soonest_59 N x_now k50 n) l1 l2 l3 (l4 + 1) l5 x_metAt x_memoryAt x_upAt x_downAt x_isSignal x_memories x_placeOf x_nextPlace x_places x_kindOf x_newKind x_kinds x_stateOfKind x_stateAt x_stepTo x_states x_far)

def mL_soonest_50 (N : Nat) (x_now : Nat → Int32)  : Nat → Int32 → Int32 → Int32 → Int32 → Int32 → (Nat → Int32) → (Nat → Int32) → (Nat → Int32) → (Nat → Int32) → (Nat → Int32) → (Nat → Int32) → (Nat → Int32) → (Nat → Int32) → Int32 → (Nat → Int32) → (Nat → Int32) → Int32 → (Nat → Int32) → (Nat → Int32) → (Nat → Int32) → Int32 → (Nat → Int32) → Option (Int32 × (Nat → Int32) × (Nat → Int32) × (Nat → Int32) × (Nat → Int32) × (Nat → Int32) × (Nat → Int32) × (Nat → Int32) × (Nat → Int32) × Int32 × (Nat → Int32) × (Nat → Int32) × Int32 × (Nat → Int32) × (Nat → Int32) × (Nat → Int32) × Int32 × (Nat → Int32))
  | 0, _, _, _, _, _, _, _, _, _, _, _, _, _, _, _, _, _, _, _, _, _, _ => none
  | n + 1, l1, l2, l3, l4, l5, x_metAt, x_memoryAt, x_upAt, x_downAt, x_isSignal, x_memories, x_placeOf, x_nextPlace, x_places, x_kindOf, x_newKind, x_kinds, x_stateOfKind, x_stateAt, x_stepTo, x_states, x_far =>
  if l1 < l5 then (some (l4, x_metAt, x_memoryAt, x_upAt, x_downAt, x_isSignal, x_memories, x_placeOf, x_nextPlace, x_places, x_kindOf, x_newKind, x_kinds, x_stateOfKind, x_stateAt, x_stepTo, x_states, x_far))
  else (mL_soonest_59 N x_now (mL_soonest_50 N x_now n) N l1 l2 l3 0 l5 x_metAt x_memoryAt x_upAt x_downAt x_isSignal x_memories x_placeOf x_nextPlace x_places x_kindOf x_newKind x_kinds x_stateOfKind x_stateAt x_stepTo x_states x_far)

def mF_soonest (N : Nat) (x_now : Nat → Int32) (a0 : Int32) (x_metAt : Nat → Int32) (x_memoryAt : Nat → Int32) (x_upAt : Nat → Int32) (x_downAt : Nat → Int32) (x_isSignal : Nat → Int32) (x_memories : Nat → Int32) (x_placeOf : Nat → Int32) (x_nextPlace : Nat → Int32) (x_places : Int32) (x_kindOf : Nat → Int32) (x_newKind : Nat → Int32) (x_kinds : Int32) (x_stateOfKind : Nat → Int32) (x_stateAt : Nat → Int32) (x_stepTo : Nat → Int32) (x_states : Int32) (x_far : Nat → Int32) : Option (Int32 × (Nat → Int32) × (Nat → Int32) × (Nat → Int32) × (Nat → Int32) × (Nat → Int32) × (Nat → Int32) × (Nat → Int32) × (Nat → Int32) × Int32 × (Nat → Int32) × (Nat → Int32) × Int32 × (Nat → Int32) × (Nat → Int32) × (Nat → Int32) × Int32 × (Nat → Int32)) :=
  if (-1) ≤ a0 then ((mF_stateNow N x_now x_metAt x_memoryAt x_upAt x_downAt x_isSignal x_memories x_placeOf x_nextPlace x_places x_kindOf x_newKind x_kinds x_stateOfKind x_stateAt x_stepTo x_states).bind fun y9 => (mF_findFar N y9.2.2.2.2.2.2.2.2.2.2.2.2.2.2.2.1 y9.2.2.2.2.2.2.2.2.2.2.2.2.2.2.2.2 x_far).bind fun y11 => (gd y9.1 64).bind fun j13 => if (y11 j13) = 100 then (mB_soonest_34 N x_now y9.2.1 y9.2.2.1 y9.2.2.2.1 y9.2.2.2.2.1 y9.2.2.2.2.2.1 y9.2.2.2.2.2.2.1 y9.2.2.2.2.2.2.2.1 y9.2.2.2.2.2.2.2.2.1 y9.2.2.2.2.2.2.2.2.2.1 y9.2.2.2.2.2.2.2.2.2.2.1 y9.2.2.2.2.2.2.2.2.2.2.2.1 y9.2.2.2.2.2.2.2.2.2.2.2.2.1 y9.2.2.2.2.2.2.2.2.2.2.2.2.2.1 y9.2.2.2.2.2.2.2.2.2.2.2.2.2.2.1 y9.2.2.2.2.2.2.2.2.2.2.2.2.2.2.2.1 y9.2.2.2.2.2.2.2.2.2.2.2.2.2.2.2.2 y11)
  else (if a0 < (y11 j13) then (if a0 = (-1) then (some (y11 j13, y9.2.1, y9.2.2.1, y9.2.2.2.1, y9.2.2.2.2.1, y9.2.2.2.2.2.1, y9.2.2.2.2.2.2.1, y9.2.2.2.2.2.2.2.1, y9.2.2.2.2.2.2.2.2.1, y9.2.2.2.2.2.2.2.2.2.1, y9.2.2.2.2.2.2.2.2.2.2.1, y9.2.2.2.2.2.2.2.2.2.2.2.1, y9.2.2.2.2.2.2.2.2.2.2.2.2.1, y9.2.2.2.2.2.2.2.2.2.2.2.2.2.1, y9.2.2.2.2.2.2.2.2.2.2.2.2.2.2.1, y9.2.2.2.2.2.2.2.2.2.2.2.2.2.2.2.1, y9.2.2.2.2.2.2.2.2.2.2.2.2.2.2.2.2, y11))
  else (mL_soonest_50 N x_now N a0 y9.1 (y11 j13) 0 0 y9.2.1 y9.2.2.1 y9.2.2.2.1 y9.2.2.2.2.1 y9.2.2.2.2.2.1 y9.2.2.2.2.2.2.1 y9.2.2.2.2.2.2.2.1 y9.2.2.2.2.2.2.2.2.1 y9.2.2.2.2.2.2.2.2.2.1 y9.2.2.2.2.2.2.2.2.2.2.1 y9.2.2.2.2.2.2.2.2.2.2.2.1 y9.2.2.2.2.2.2.2.2.2.2.2.2.1 y9.2.2.2.2.2.2.2.2.2.2.2.2.2.1 y9.2.2.2.2.2.2.2.2.2.2.2.2.2.2.1 y9.2.2.2.2.2.2.2.2.2.2.2.2.2.2.2.1 y9.2.2.2.2.2.2.2.2.2.2.2.2.2.2.2.2 y11))
  else (mB_soonest_34 N x_now y9.2.1 y9.2.2.1 y9.2.2.2.1 y9.2.2.2.2.1 y9.2.2.2.2.2.1 y9.2.2.2.2.2.2.1 y9.2.2.2.2.2.2.2.1 y9.2.2.2.2.2.2.2.2.1 y9.2.2.2.2.2.2.2.2.2.1 y9.2.2.2.2.2.2.2.2.2.2.1 y9.2.2.2.2.2.2.2.2.2.2.2.1 y9.2.2.2.2.2.2.2.2.2.2.2.2.1 y9.2.2.2.2.2.2.2.2.2.2.2.2.2.1 y9.2.2.2.2.2.2.2.2.2.2.2.2.2.2.1 y9.2.2.2.2.2.2.2.2.2.2.2.2.2.2.2.1 y9.2.2.2.2.2.2.2.2.2.2.2.2.2.2.2.2 y11)))
  else (some ((-1), x_metAt, x_memoryAt, x_upAt, x_downAt, x_isSignal, x_memories, x_placeOf, x_nextPlace, x_places, x_kindOf, x_newKind, x_kinds, x_stateOfKind, x_stateAt, x_stepTo, x_states, x_far))

/-! common -/
def mL_common_6 (N : Nat)   : Nat → Int64 → Int64 → Option (Int64)
  | 0, _, _ => none
  | n + 1, l4, l6 =>
  if (lg_cmp l6 0) = 0 then (some l4)
  else (if ¬ l6 = 0 then (mL_common_6 N  n) l6 (l4 - l4 / l6 * l6) else none)

def mF_common (N : Nat)  (a0 : Int64) (a1 : Int64)  : Option (Int64) :=
  mL_common_6 N N a0 a1

/-! odds -/
def mB_odds_19 (N : Nat) (x_now : Nat → Int32)  (x_metAt : Nat → Int32) (x_memoryAt : Nat → Int32) (x_upAt : Nat → Int32) (x_downAt : Nat → Int32) (x_isSignal : Nat → Int32) (x_memories : Nat → Int32) (x_placeOf : Nat → Int32) (x_nextPlace : Nat → Int32) (x_places : Int32) (x_kindOf : Nat → Int32) (x_newKind : Nat → Int32) (x_kinds : Int32) (x_stateOfKind : Nat → Int32) (x_stateAt : Nat → Int32) (x_stepTo : Nat → Int32) (x_states : Int32) (x_ways : Nat → Int64) (x_nextWays : Nat → Int64) : Option (Int32 × (Nat → Int32) × (Nat → Int32) × (Nat → Int32) × (Nat → Int32) × (Nat → Int32) × (Nat → Int32) × (Nat → Int32) × (Nat → Int32) × Int32 × (Nat → Int32) × (Nat → Int32) × Int32 × (Nat → Int32) × (Nat → Int32) × (Nat → Int32) × Int32 × (Nat → Int64) × (Nat → Int64)) :=
  some ((-1), x_metAt, x_memoryAt, x_upAt, x_downAt, x_isSignal, x_memories, x_placeOf, x_nextPlace, x_places, x_kindOf, x_newKind, x_kinds, x_stateOfKind, x_stateAt, x_stepTo, x_states, x_ways, x_nextWays)

def mB_odds_239 (N : Nat) (x_now : Nat → Int32)  (s0 : Int64) (x_metAt : Nat → Int32) (x_memoryAt : Nat → Int32) (x_upAt : Nat → Int32) (x_downAt : Nat → Int32) (x_isSignal : Nat → Int32) (x_memories : Nat → Int32) (x_placeOf : Nat → Int32) (x_nextPlace : Nat → Int32) (x_places : Int32) (x_kindOf : Nat → Int32) (x_newKind : Nat → Int32) (x_kinds : Int32) (x_stateOfKind : Nat → Int32) (x_stateAt : Nat → Int32) (x_stepTo : Nat → Int32) (x_states : Int32) (x_ways : Nat → Int64) (x_nextWays : Nat → Int64) : Option (Int32 × (Nat → Int32) × (Nat → Int32) × (Nat → Int32) × (Nat → Int32) × (Nat → Int32) × (Nat → Int32) × (Nat → Int32) × (Nat → Int32) × Int32 × (Nat → Int32) × (Nat → Int32) × Int32 × (Nat → Int32) × (Nat → Int32) × (Nat → Int32) × Int32 × (Nat → Int64) × (Nat → Int64)) :=
  some (s0.toInt32, x_metAt, x_memoryAt, x_upAt, x_downAt, x_isSignal, x_memories, x_placeOf, x_nextPlace, x_places, x_kindOf, x_newKind, x_kinds, x_stateOfKind, x_stateAt, x_stepTo, x_states, x_ways, x_nextWays)

def mL_odds_162 (N : Nat) (x_now : Nat → Int32) (k58 : Int32 → Int32 → Int32 → Int64 → Int32 → (Nat → Int32) → (Nat → Int32) → (Nat → Int32) → (Nat → Int32) → (Nat → Int32) → (Nat → Int32) → (Nat → Int32) → (Nat → Int32) → Int32 → (Nat → Int32) → (Nat → Int32) → Int32 → (Nat → Int32) → (Nat → Int32) → (Nat → Int32) → Int32 → (Nat → Int64) → (Nat → Int64) → Option (Int32 × (Nat → Int32) × (Nat → Int32) × (Nat → Int32) × (Nat → Int32) × (Nat → Int32) × (Nat → Int32) × (Nat → Int32) × (Nat → Int32) × Int32 × (Nat → Int32) × (Nat → Int32) × Int32 × (Nat → Int32) × (Nat → Int32) × (Nat → Int32) × Int32 × (Nat → Int64) × (Nat → Int64))) : Nat → Int32 → Int32 → Int32 → Int64 → Int32 → Int32 → (Nat → Int32) → (Nat → Int32) → (Nat → Int32) → (Nat → Int32) → (Nat → Int32) → (Nat → Int32) → (Nat → Int32) → (Nat → Int32) → Int32 → (Nat → Int32) → (Nat → Int32) → Int32 → (Nat → Int32) → (Nat → Int32) → (Nat → Int32) → Int32 → (Nat → Int64) → (Nat → Int64) → Option (Int32 × (Nat → Int32) × (Nat → Int32) × (Nat → Int32) × (Nat → Int32) × (Nat → Int32) × (Nat → Int32) × (Nat → Int32) × (Nat → Int32) × Int32 × (Nat → Int32) × (Nat → Int32) × Int32 × (Nat → Int32) × (Nat → Int32) × (Nat → Int32) × Int32 × (Nat → Int64) × (Nat → Int64))
  | 0, _, _, _, _, _, _, _, _, _, _, _, _, _, _, _, _, _, _, _, _, _, _, _, _ => none
  | n + 1, l1, l2, l3, l4, l6, l7, x_metAt, x_memoryAt, x_upAt, x_downAt, x_isSignal, x_memories, x_placeOf, x_nextPlace, x_places, x_kindOf, x_newKind, x_kinds, x_stateOfKind, x_stateAt, x_stepTo, x_states, x_ways, x_nextWays =>
  if x_states ≤ l7 then (k58 l1 l2 l3 (l4 * 10) (l6 + 1) x_metAt x_memoryAt x_upAt x_downAt x_isSignal x_memories x_placeOf x_nextPlace x_places x_kindOf x_newKind x_kinds x_stateOfKind x_stateAt x_stepTo x_states x_ways x_nextWays)
  else ((gd l7 64).bind fun j2 => (gd l7 64).bind fun j4 => (mL_odds_162 N x_now k58 n) l1 l2 l3 l4 l6 (l7 + 1) x_metAt x_memoryAt x_upAt x_downAt x_isSignal x_memories x_placeOf x_nextPlace x_places x_kindOf x_newKind x_kinds x_stateOfKind x_stateAt x_stepTo x_states (vp_updL x_ways j4 (x_nextWays j2)) x_nextWays)

def mB_odds_134 (N : Nat) (x_now : Nat → Int32) (k58 : Int32 → Int32 → Int32 → Int64 → Int32 → (Nat → Int32) → (Nat → Int32) → (Nat → Int32) → (Nat → Int32) → (Nat → Int32) → (Nat → Int32) → (Nat → Int32) → (Nat → Int32) → Int32 → (Nat → Int32) → (Nat → Int32) → Int32 → (Nat → Int32) → (Nat → Int32) → (Nat → Int32) → Int32 → (Nat → Int64) → (Nat → Int64) → Option (Int32 × (Nat → Int32) × (Nat → Int32) × (Nat → Int32) × (Nat → Int32) × (Nat → Int32) × (Nat → Int32) × (Nat → Int32) × (Nat → Int32) × Int32 × (Nat → Int32) × (Nat → Int32) × Int32 × (Nat → Int32) × (Nat → Int32) × (Nat → Int32) × Int32 × (Nat → Int64) × (Nat → Int64))) (k67 : Int32 → Int32 → Int32 → Int64 → Int32 → Int32 → (Nat → Int32) → (Nat → Int32) → (Nat → Int32) → (Nat → Int32) → (Nat → Int32) → (Nat → Int32) → (Nat → Int32) → (Nat → Int32) → Int32 → (Nat → Int32) → (Nat → Int32) → Int32 → (Nat → Int32) → (Nat → Int32) → (Nat → Int32) → Int32 → (Nat → Int64) → (Nat → Int64) → Option (Int32 × (Nat → Int32) × (Nat → Int32) × (Nat → Int32) × (Nat → Int32) × (Nat → Int32) × (Nat → Int32) × (Nat → Int32) × (Nat → Int32) × Int32 × (Nat → Int32) × (Nat → Int32) × Int32 × (Nat → Int32) × (Nat → Int32) × (Nat → Int32) × Int32 × (Nat → Int64) × (Nat → Int64))) (k82 : Int32 → Int32 → Int32 → Int64 → Int32 → Int32 → Int64 → Int32 → (Nat → Int32) → (Nat → Int32) → (Nat → Int32) → (Nat → Int32) → (Nat → Int32) → (Nat → Int32) → (Nat → Int32) → (Nat → Int32) → Int32 → (Nat → Int32) → (Nat → Int32) → Int32 → (Nat → Int32) → (Nat → Int32) → (Nat → Int32) → Int32 → (Nat → Int64) → (Nat → Int64) → Option (Int32 × (Nat → Int32) × (Nat → Int32) × (Nat → Int32) × (Nat → Int32) × (Nat → Int32) × (Nat → Int32) × (Nat → Int32) × (Nat → Int32) × Int32 × (Nat → Int32) × (Nat → Int32) × Int32 × (Nat → Int32) × (Nat → Int32) × (Nat → Int32) × Int32 × (Nat → Int64) × (Nat → Int64))) (s0 : Int64) (s1 : Int64) (s2 : Int64) (l1 : Int32) (l2 : Int32) (l3 : Int32) (l4 : Int64) (l6 : Int32) (l7 : Int32) (l10 : Int32) (x_metAt : Nat → Int32) (x_memoryAt : Nat → Int32) (x_upAt : Nat → Int32) (x_downAt : Nat → Int32) (x_isSignal : Nat → Int32) (x_memories : Nat → Int32) (x_placeOf : Nat → Int32) (x_nextPlace : Nat → Int32) (x_places : Int32) (x_kindOf : Nat → Int32) (x_newKind : Nat → Int32) (x_kinds : Int32) (x_stateOfKind : Nat → Int32) (x_stateAt : Nat → Int32) (x_stepTo : Nat → Int32) (x_states : Int32) (x_ways : Nat → Int64) (x_nextWays : Nat → Int64) : Option (Int32 × (Nat → Int32) × (Nat → Int32) × (Nat → Int32) × (Nat → Int32) × (Nat → Int32) × (Nat → Int32) × (Nat → Int32) × (Nat → Int32) × Int32 × (Nat → Int32) × (Nat → Int32) × Int32 × (Nat → Int32) × (Nat → Int32) × (Nat → Int32) × Int32 × (Nat → Int64) × (Nat → Int64)) :=
  k82 l1 l2 l3 l4 l6 l7 (s0 + (s1 * s2)) (l10 + 1) x_metAt x_memoryAt x_upAt x_downAt x_isSignal x_memories x_placeOf x_nextPlace x_places x_kindOf x_newKind x_kinds x_stateOfKind x_stateAt x_stepTo x_states x_ways x_nextWays

def mL_odds_82 (N : Nat) (x_now : Nat → Int32) (k58 : Int32 → Int32 → Int32 → Int64 → Int32 → (Nat → Int32) → (Nat → Int32) → (Nat → Int32) → (Nat → Int32) → (Nat → Int32) → (Nat → Int32) → (Nat → Int32) → (Nat → Int32) → Int32 → (Nat → Int32) → (Nat → Int32) → Int32 → (Nat → Int32) → (Nat → Int32) → (Nat → Int32) → Int32 → (Nat → Int64) → (Nat → Int64) → Option (Int32 × (Nat → Int32) × (Nat → Int32) × (Nat → Int32) × (Nat → Int32) × (Nat → Int32) × (Nat → Int32) × (Nat → Int32) × (Nat → Int32) × Int32 × (Nat → Int32) × (Nat → Int32) × Int32 × (Nat → Int32) × (Nat → Int32) × (Nat → Int32) × Int32 × (Nat → Int64) × (Nat → Int64))) (k67 : Int32 → Int32 → Int32 → Int64 → Int32 → Int32 → (Nat → Int32) → (Nat → Int32) → (Nat → Int32) → (Nat → Int32) → (Nat → Int32) → (Nat → Int32) → (Nat → Int32) → (Nat → Int32) → Int32 → (Nat → Int32) → (Nat → Int32) → Int32 → (Nat → Int32) → (Nat → Int32) → (Nat → Int32) → Int32 → (Nat → Int64) → (Nat → Int64) → Option (Int32 × (Nat → Int32) × (Nat → Int32) × (Nat → Int32) × (Nat → Int32) × (Nat → Int32) × (Nat → Int32) × (Nat → Int32) × (Nat → Int32) × Int32 × (Nat → Int32) × (Nat → Int32) × Int32 × (Nat → Int32) × (Nat → Int32) × (Nat → Int32) × Int32 × (Nat → Int64) × (Nat → Int64))) : Nat → Int32 → Int32 → Int32 → Int64 → Int32 → Int32 → Int64 → Int32 → (Nat → Int32) → (Nat → Int32) → (Nat → Int32) → (Nat → Int32) → (Nat → Int32) → (Nat → Int32) → (Nat → Int32) → (Nat → Int32) → Int32 → (Nat → Int32) → (Nat → Int32) → Int32 → (Nat → Int32) → (Nat → Int32) → (Nat → Int32) → Int32 → (Nat → Int64) → (Nat → Int64) → Option (Int32 × (Nat → Int32) × (Nat → Int32) × (Nat → Int32) × (Nat → Int32) × (Nat → Int32) × (Nat → Int32) × (Nat → Int32) × (Nat → Int32) × Int32 × (Nat → Int32) × (Nat → Int32) × Int32 × (Nat → Int32) × (Nat → Int32) × (Nat → Int32) × Int32 × (Nat → Int64) × (Nat → Int64))
  | 0, _, _, _, _, _, _, _, _, _, _, _, _, _, _, _, _, _, _, _, _, _, _, _, _, _, _ => none
  | n + 1, l1, l2, l3, l4, l6, l7, l8, l10, x_metAt, x_memoryAt, x_upAt, x_downAt, x_isSignal, x_memories, x_placeOf, x_nextPlace, x_places, x_kindOf, x_newKind, x_kinds, x_stateOfKind, x_stateAt, x_stepTo, x_states, x_ways, x_nextWays =>
  if 5 ≤ l10 then ((gd l7 64).bind fun j7 => k67 l1 l2 l3 l4 l6 (l7 + 1) x_metAt x_memoryAt x_upAt x_downAt x_isSignal x_memories x_placeOf x_nextPlace x_places x_kindOf x_newKind x_kinds x_stateOfKind x_stateAt x_stepTo x_states x_ways (vp_updL x_nextWays j7 l8))
  else ((gd ((5 * l7) + l10) 320).bind fun j9 => (gd (10 + l10) 98).bind fun j11 => if (x_stepTo j9) = (-5) then (mB_odds_134 N x_now k58 k67 (mL_odds_82 N x_now k58 k67 n) l8 ((x_now j11).toInt64) l4 l1 l2 l3 l4 l6 l7 l10 x_metAt x_memoryAt x_upAt x_downAt x_isSignal x_memories x_placeOf x_nextPlace x_places x_kindOf x_newKind x_kinds x_stateOfKind x_stateAt x_stepTo x_states x_ways x_nextWays)
  else ((gd (x_stepTo j9) 64).bind fun j14 => mB_odds_134 N x_now k58 k67 (mL_odds_82 N x_now k58 k67 n) l8 ((x_now j11).toInt64) (x_ways j14) l1 l2 l3 l4 l6 l7 l10 x_metAt x_memoryAt x_upAt x_downAt x_isSignal x_memories x_placeOf x_nextPlace x_places x_kindOf x_newKind x_kinds x_stateOfKind x_stateAt x_stepTo x_states x_ways x_nextWays))

def mL_odds_67 (N : Nat) (x_now : Nat → Int32) (k58 : Int32 → Int32 → Int32 → Int64 → Int32 → (Nat → Int32) → (Nat → Int32) → (Nat → Int32) → (Nat → Int32) → (Nat → Int32) → (Nat → Int32) → (Nat → Int32) → (Nat → Int32) → Int32 → (Nat → Int32) → (Nat → Int32) → Int32 → (Nat → Int32) → (Nat → Int32) → (Nat → Int32) → Int32 → (Nat → Int64) → (Nat → Int64) → Option (Int32 × (Nat → Int32) × (Nat → Int32) × (Nat → Int32) × (Nat → Int32) × (Nat → Int32) × (Nat → Int32) × (Nat → Int32) × (Nat → Int32) × Int32 × (Nat → Int32) × (Nat → Int32) × Int32 × (Nat → Int32) × (Nat → Int32) × (Nat → Int32) × Int32 × (Nat → Int64) × (Nat → Int64))) : Nat → Int32 → Int32 → Int32 → Int64 → Int32 → Int32 → (Nat → Int32) → (Nat → Int32) → (Nat → Int32) → (Nat → Int32) → (Nat → Int32) → (Nat → Int32) → (Nat → Int32) → (Nat → Int32) → Int32 → (Nat → Int32) → (Nat → Int32) → Int32 → (Nat → Int32) → (Nat → Int32) → (Nat → Int32) → Int32 → (Nat → Int64) → (Nat → Int64) → Option (Int32 × (Nat → Int32) × (Nat → Int32) × (Nat → Int32) × (Nat → Int32) × (Nat → Int32) × (Nat → Int32) × (Nat → Int32) × (Nat → Int32) × Int32 × (Nat → Int32) × (Nat → Int32) × Int32 × (Nat → Int32) × (Nat → Int32) × (Nat → Int32) × Int32 × (Nat → Int64) × (Nat → Int64))
  | 0, _, _, _, _, _, _, _, _, _, _, _, _, _, _, _, _, _, _, _, _, _, _, _, _ => none
  | n + 1, l1, l2, l3, l4, l6, l7, x_metAt, x_memoryAt, x_upAt, x_downAt, x_isSignal, x_memories, x_placeOf, x_nextPlace, x_places, x_kindOf, x_newKind, x_kinds, x_stateOfKind, x_stateAt, x_stepTo, x_states, x_ways, x_nextWays =>
  if x_states ≤ l7 then (mL_odds_162 N x_now k58 N l1 l2 l3 l4 l6 0 x_metAt x_memoryAt x_upAt x_downAt x_isSignal x_memories x_placeOf x_nextPlace x_places x_kindOf x_newKind x_kinds x_stateOfKind x_stateAt x_stepTo x_states x_ways x_nextWays)
  else (mL_odds_82 N x_now k58 (mL_odds_67 N x_now k58 n) N l1 l2 l3 l4 l6 l7 0 0 x_metAt x_memoryAt x_upAt x_downAt x_isSignal x_memories x_placeOf x_nextPlace x_places x_kindOf x_newKind x_kinds x_stateOfKind x_stateAt x_stepTo x_states x_ways x_nextWays)

def mL_odds_58 (N : Nat) (x_now : Nat → Int32)  : Nat → Int32 → Int32 → Int32 → Int64 → Int32 → (Nat → Int32) → (Nat → Int32) → (Nat → Int32) → (Nat → Int32) → (Nat → Int32) → (Nat → Int32) → (Nat → Int32) → (Nat → Int32) → Int32 → (Nat → Int32) → (Nat → Int32) → Int32 → (Nat → Int32) → (Nat → Int32) → (Nat → Int32) → Int32 → (Nat → Int64) → (Nat → Int64) → Option (Int32 × (Nat → Int32) × (Nat → Int32) × (Nat → Int32) × (Nat → Int32) × (Nat → Int32) × (Nat → Int32) × (Nat → Int32) × (Nat → Int32) × Int32 × (Nat → Int32) × (Nat → Int32) × Int32 × (Nat → Int32) × (Nat → Int32) × (Nat → Int32) × Int32 × (Nat → Int64) × (Nat → Int64))
  | 0, _, _, _, _, _, _, _, _, _, _, _, _, _, _, _, _, _, _, _, _, _, _, _ => none
  | n + 1, l1, l2, l3, l4, l6, x_metAt, x_memoryAt, x_upAt, x_downAt, x_isSignal, x_memories, x_placeOf, x_nextPlace, x_places, x_kindOf, x_newKind, x_kinds, x_stateOfKind, x_stateAt, x_stepTo, x_states, x_ways, x_nextWays =>
  if l1 ≤ l6 then ((gd l3 64).bind fun j18 => (mF_common N l4 (x_ways j18)).bind fun y20 => if l2 = 0 then ((gd l3 64).bind fun j23 => if ¬ y20 = 0 then mB_odds_239 N x_now ((x_ways j23) / y20) x_metAt x_memoryAt x_upAt x_downAt x_isSignal x_memories x_placeOf x_nextPlace x_places x_kindOf x_newKind x_kinds x_stateOfKind x_stateAt x_stepTo x_states x_ways x_nextWays else none)
  else (if ¬ y20 = 0 then mB_odds_239 N x_now (l4 / y20) x_metAt x_memoryAt x_upAt x_downAt x_isSignal x_memories x_placeOf x_nextPlace x_places x_kindOf x_newKind x_kinds x_stateOfKind x_stateAt x_stepTo x_states x_ways x_nextWays else none))
  else (mL_odds_67 N x_now (mL_odds_58 N x_now n) N l1 l2 l3 l4 l6 0 x_metAt x_memoryAt x_upAt x_downAt x_isSignal x_memories x_placeOf x_nextPlace x_places x_kindOf x_newKind x_kinds x_stateOfKind x_stateAt x_stepTo x_states x_ways x_nextWays)

def mL_odds_32 (N : Nat) (x_now : Nat → Int32)  : Nat → Int32 → Int32 → Int32 → Int64 → Int32 → (Nat → Int32) → (Nat → Int32) → (Nat → Int32) → (Nat → Int32) → (Nat → Int32) → (Nat → Int32) → (Nat → Int32) → (Nat → Int32) → Int32 → (Nat → Int32) → (Nat → Int32) → Int32 → (Nat → Int32) → (Nat → Int32) → (Nat → Int32) → Int32 → (Nat → Int64) → (Nat → Int64) → Option (Int32 × (Nat → Int32) × (Nat → Int32) × (Nat → Int32) × (Nat → Int32) × (Nat → Int32) × (Nat → Int32) × (Nat → Int32) × (Nat → Int32) × Int32 × (Nat → Int32) × (Nat → Int32) × Int32 × (Nat → Int32) × (Nat → Int32) × (Nat → Int32) × Int32 × (Nat → Int64) × (Nat → Int64))
  | 0, _, _, _, _, _, _, _, _, _, _, _, _, _, _, _, _, _, _, _, _, _, _, _ => none
  | n + 1, l1, l2, l3, l4, l6, x_metAt, x_memoryAt, x_upAt, x_downAt, x_isSignal, x_memories, x_placeOf, x_nextPlace, x_places, x_kindOf, x_newKind, x_kinds, x_stateOfKind, x_stateAt, x_stepTo, x_states, x_ways, x_nextWays =>
  if x_states ≤ l6 then (mL_odds_58 N x_now N l1 l2 l3 l4 0 x_metAt x_memoryAt x_upAt x_downAt x_isSignal x_memories x_placeOf x_nextPlace x_places x_kindOf x_newKind x_kinds x_stateOfKind x_stateAt x_stepTo x_states x_ways x_nextWays)
  else ((gd l6 64).bind fun j28 => (mL_odds_32 N x_now n) l1 l2 l3 l4 (l6 + 1) x_metAt x_memoryAt x_upAt x_downAt x_isSignal x_memories x_placeOf x_nextPlace x_places x_kindOf x_newKind x_kinds x_stateOfKind x_stateAt x_stepTo x_states (vp_updL x_ways j28 0) x_nextWays)

def mF_odds (N : Nat) (x_now : Nat → Int32) (a0 : Int32) (a1 : Int32) (x_metAt : Nat → Int32) (x_memoryAt : Nat → Int32) (x_upAt : Nat → Int32) (x_downAt : Nat → Int32) (x_isSignal : Nat → Int32) (x_memories : Nat → Int32) (x_placeOf : Nat → Int32) (x_nextPlace : Nat → Int32) (x_places : Int32) (x_kindOf : Nat → Int32) (x_newKind : Nat → Int32) (x_kinds : Int32) (x_stateOfKind : Nat → Int32) (x_stateAt : Nat → Int32) (x_stepTo : Nat → Int32) (x_states : Int32) (x_ways : Nat → Int64) (x_nextWays : Nat → Int64) : Option (Int32 × (Nat → Int32) × (Nat → Int32) × (Nat → Int32) × (Nat → Int32) × (Nat → Int32) × (Nat → Int32) × (Nat → Int32) × (Nat → Int32) × Int32 × (Nat → Int32) × (Nat → Int32) × Int32 × (Nat → Int32) × (Nat → Int32) × (Nat → Int32) × Int32 × (Nat → Int64) × (Nat → Int64)) :=
  (mF_in N a0 0 8).bind fun y30 => if y30 = 0 then (mB_odds_19 N x_now x_metAt x_memoryAt x_upAt x_downAt x_isSignal x_memories x_placeOf x_nextPlace x_places x_kindOf x_newKind x_kinds x_stateOfKind x_stateAt x_stepTo x_states x_ways x_nextWays)
  else ((mF_in N a1 0 1).bind fun y33 => if y33 = 0 then (mB_odds_19 N x_now x_metAt x_memoryAt x_upAt x_downAt x_isSignal x_memories x_placeOf x_nextPlace x_places x_kindOf x_newKind x_kinds x_stateOfKind x_stateAt x_stepTo x_states x_ways x_nextWays)
  else ((mF_stateNow N x_now x_metAt x_memoryAt x_upAt x_downAt x_isSignal x_memories x_placeOf x_nextPlace x_places x_kindOf x_newKind x_kinds x_stateOfKind x_stateAt x_stepTo x_states).bind fun y36 => mL_odds_32 N x_now N a0 a1 y36.1 1 0 y36.2.1 y36.2.2.1 y36.2.2.2.1 y36.2.2.2.2.1 y36.2.2.2.2.2.1 y36.2.2.2.2.2.2.1 y36.2.2.2.2.2.2.2.1 y36.2.2.2.2.2.2.2.2.1 y36.2.2.2.2.2.2.2.2.2.1 y36.2.2.2.2.2.2.2.2.2.2.1 y36.2.2.2.2.2.2.2.2.2.2.2.1 y36.2.2.2.2.2.2.2.2.2.2.2.2.1 y36.2.2.2.2.2.2.2.2.2.2.2.2.2.1 y36.2.2.2.2.2.2.2.2.2.2.2.2.2.2.1 y36.2.2.2.2.2.2.2.2.2.2.2.2.2.2.2.1 y36.2.2.2.2.2.2.2.2.2.2.2.2.2.2.2.2 x_ways x_nextWays))

/-! layTable -/
def mB_layTable_124 (N : Nat) (x_now : Nat → Int32) (x_stepTo : Nat → Int32) (x_states : Int32) (k2 : Int32 → (Nat → Int64) → Option (Nat → Int64)) (k61 : Int32 → Int32 → (Nat → Int64) → Option (Nat → Int64)) (l1 : Int32) (l2 : Int32) (x_table : Nat → Int64) : Option (Nat → Int64) :=
  k61 l1 (l2 + 1) x_table

def mL_layTable_61 (N : Nat) (x_now : Nat → Int32) (x_stepTo : Nat → Int32) (x_states : Int32) (k2 : Int32 → (Nat → Int64) → Option (Nat → Int64)) : Nat → Int32 → Int32 → (Nat → Int64) → Option (Nat → Int64)
  | 0, _, _, _ => none
  | n + 1, l1, l2, x_table =>
  if 5 ≤ l2 then (k2 (l1 + 1) x_table)
  else ((gd ((5 * l1) + l2) 320).bind fun j2 => if (x_stepTo j2) = (-5) then (mB_layTable_124 N x_now x_stepTo x_states k2 (mL_layTable_61 N x_now x_stepTo x_states k2 n) l1 l2 x_table)
  else ((gd ((65 * l1) + (x_stepTo j2)) 4160).bind fun j5 => (gd (10 + l2) 98).bind fun j7 => (gd ((65 * l1) + (x_stepTo j2)) 4160).bind fun j9 => mB_layTable_124 N x_now x_stepTo x_states k2 (mL_layTable_61 N x_now x_stepTo x_states k2 n) l1 l2 (vp_updL x_table j9 ((((x_table j5) + 1000003) - ((x_now j7).toInt64)) - (((x_table j5) + 1000003) - ((x_now j7).toInt64)) / 1000003 * 1000003))))

def mB_layTable_52 (N : Nat) (x_now : Nat → Int32) (x_stepTo : Nat → Int32) (x_states : Int32) (k2 : Int32 → (Nat → Int64) → Option (Nat → Int64)) (k12 : Int32 → Int32 → (Nat → Int64) → Option (Nat → Int64)) (s1 : Int32) (s2 : Int64) (l1 : Int32) (l2 : Int32) (x_table : Nat → Int64) : Option (Nat → Int64) :=
  (gd s1 4160).bind fun j11 => k12 l1 (l2 + 1) (vp_updL x_table j11 s2)

def mL_layTable_12 (N : Nat) (x_now : Nat → Int32) (x_stepTo : Nat → Int32) (x_states : Int32) (k2 : Int32 → (Nat → Int64) → Option (Nat → Int64)) : Nat → Int32 → Int32 → (Nat → Int64) → Option (Nat → Int64)
  | 0, _, _, _ => none
  | n + 1, l1, l2, x_table =>
  if 65 ≤ l2 then (mL_layTable_61 N x_now x_stepTo x_states k2 N l1 0 x_table)
  else (if l2 = 64 then (mB_layTable_52 N x_now x_stepTo x_states k2 (mL_layTable_12 N x_now x_stepTo x_states k2 n) ((65 * l1) + l2) 10 l1 l2 x_table)
  else (if l2 = l1 then (mB_layTable_52 N x_now x_stepTo x_states k2 (mL_layTable_12 N x_now x_stepTo x_states k2 n) ((65 * l1) + l2) 10 l1 l2 x_table)
  else (mB_layTable_52 N x_now x_stepTo x_states k2 (mL_layTable_12 N x_now x_stepTo x_states k2 n) ((65 * l1) + l2) 0 l1 l2 x_table)))

def mL_layTable_2 (N : Nat) (x_now : Nat → Int32) (x_stepTo : Nat → Int32) (x_states : Int32)  : Nat → Int32 → (Nat → Int64) → Option (Nat → Int64)
  | 0, _, _ => none
  | n + 1, l1, x_table =>
  if x_states ≤ l1 then (some x_table)
  else (mL_layTable_12 N x_now x_stepTo x_states (mL_layTable_2 N x_now x_stepTo x_states n) N l1 0 x_table)

def mF_layTable (N : Nat) (x_now : Nat → Int32) (x_stepTo : Nat → Int32) (x_states : Int32)  (x_table : Nat → Int64) : Option (Nat → Int64) :=
  mL_layTable_2 N x_now x_stepTo x_states N 0 x_table

/-! change -/
def mB_change_67 (N : Nat)   (x_table : Nat → Int64) : Option (Nat → Int64) :=
  some x_table

def mL_change_2 (N : Nat)   : Nat → Int32 → Int32 → Int32 → (Nat → Int64) → Option (Nat → Int64)
  | 0, _, _, _, _ => none
  | n + 1, l1, l2, l3, x_table =>
  if 65 ≤ l3 then (mB_change_67 N x_table)
  else (if l1 = l2 then (mB_change_67 N x_table)
  else ((gd ((65 * l1) + l3) 4160).bind fun j3 => (gd ((65 * l2) + l3) 4160).bind fun j5 => (gd ((65 * l1) + l3) 4160).bind fun j7 => (gd ((65 * l2) + l3) 4160).bind fun j9 => (mL_change_2 N  n) l1 l2 (l3 + 1) (vp_updL (vp_updL x_table j7 (x_table j5)) j9 (x_table j3))))

def mF_change (N : Nat)  (a0 : Int32) (a1 : Int32) (x_table : Nat → Int64) : Option (Nat → Int64) :=
  mL_change_2 N N a0 a1 0 x_table

/-! inverse -/
def mB_inverse_35 (N : Nat)  (k9 : Int64 → Int64 → Int32 → Option (Int64)) (s0 : Int64) (l2 : Int64) (l6 : Int32) : Option (Int64) :=
  k9 ((l2 * l2) - (l2 * l2) / 1000003 * 1000003) s0 (l6 / 2)

def mL_inverse_9 (N : Nat)   : Nat → Int64 → Int64 → Int32 → Option (Int64)
  | 0, _, _, _ => none
  | n + 1, l2, l4, l6 =>
  if l6 ≤ 0 then (some l4)
  else (if (l6 - l6 / 2 * 2) = 1 then (mB_inverse_35 N (mL_inverse_9 N  n) ((l4 * l2) - (l4 * l2) / 1000003 * 1000003) l2 l6)
  else (mB_inverse_35 N (mL_inverse_9 N  n) l4 l2 l6))

def mF_inverse (N : Nat)  (a0 : Int64)  : Option (Int64) :=
  mL_inverse_9 N N a0 1 1000001

/-! solve -/
def mB_solve_226 (N : Nat) (x_states : Int32) (k2 : Int32 → (Nat → Int64) → Option (Int32 × (Nat → Int64))) (k120 : Int32 → Int32 → (Nat → Int64) → Option (Int32 × (Nat → Int64))) (l1 : Int32) (l5 : Int32) (x_table : Nat → Int64) : Option (Int32 × (Nat → Int64)) :=
  k120 l1 (l5 + 1) x_table

def mL_solve_156 (N : Nat) (x_states : Int32) (k2 : Int32 → (Nat → Int64) → Option (Int32 × (Nat → Int64))) (k120 : Int32 → Int32 → (Nat → Int64) → Option (Int32 × (Nat → Int64))) : Nat → Int32 → Int32 → Int64 → Int32 → (Nat → Int64) → Option (Int32 × (Nat → Int64))
  | 0, _, _, _, _, _ => none
  | n + 1, l1, l5, l6, l8, x_table =>
  if 65 ≤ l8 then (mB_solve_226 N x_states k2 k120 l1 l5 x_table)
  else (if (lg_cmp l6 0) = 0 then (mB_solve_226 N x_states k2 k120 l1 l5 x_table)
  else ((gd ((65 * l5) + l8) 4160).bind fun j3 => (gd ((65 * l1) + l8) 4160).bind fun j5 => (gd ((65 * l5) + l8) 4160).bind fun j7 => (mL_solve_156 N x_states k2 k120 n) l1 l5 l6 (l8 + 1) (vp_updL x_table j7 (((x_table j3) + ((1000003 - l6) * (x_table j5))) - ((x_table j3) + ((1000003 - l6) * (x_table j5))) / 1000003 * 1000003))))

def mB_solve_151 (N : Nat) (x_states : Int32) (k2 : Int32 → (Nat → Int64) → Option (Int32 × (Nat → Int64))) (k120 : Int32 → Int32 → (Nat → Int64) → Option (Int32 × (Nat → Int64))) (s0 : Int64) (l1 : Int32) (l5 : Int32) (x_table : Nat → Int64) : Option (Int32 × (Nat → Int64)) :=
  mL_solve_156 N x_states k2 k120 N l1 l5 s0 0 x_table

def mL_solve_120 (N : Nat) (x_states : Int32) (k2 : Int32 → (Nat → Int64) → Option (Int32 × (Nat → Int64))) : Nat → Int32 → Int32 → (Nat → Int64) → Option (Int32 × (Nat → Int64))
  | 0, _, _, _ => none
  | n + 1, l1, l5, x_table =>
  if x_states ≤ l5 then (k2 (l1 + 1) x_table)
  else (if l5 = l1 then (mB_solve_151 N x_states k2 (mL_solve_120 N x_states k2 n) 0 l1 l5 x_table)
  else ((gd ((65 * l5) + l1) 4160).bind fun j11 => mB_solve_151 N x_states k2 (mL_solve_120 N x_states k2 n) (x_table j11) l1 l5 x_table))

def mL_solve_74 (N : Nat) (x_states : Int32) (k2 : Int32 → (Nat → Int64) → Option (Int32 × (Nat → Int64))) : Nat → Int32 → Int64 → Int32 → (Nat → Int64) → Option (Int32 × (Nat → Int64))
  | 0, _, _, _, _ => none
  | n + 1, l1, l3, l5, x_table =>
  if 65 ≤ l5 then (mL_solve_120 N x_states k2 N l1 0 x_table)
  else ((gd ((65 * l1) + l5) 4160).bind fun j14 => (gd ((65 * l1) + l5) 4160).bind fun j16 => (mL_solve_74 N x_states k2 n) l1 l3 (l5 + 1) (vp_updL x_table j16 (((x_table j14) * l3) - ((x_table j14) * l3) / 1000003 * 1000003)))

def mB_solve_42 (N : Nat) (x_states : Int32) (k2 : Int32 → (Nat → Int64) → Option (Int32 × (Nat → Int64))) (l1 : Int32) (l2 : Int32) (x_table : Nat → Int64) : Option (Int32 × (Nat → Int64)) :=
  if l2 = x_states then (some (0, x_table))
  else ((mF_change N l2 l1 x_table).bind fun y19 => (gd (66 * l1) 4160).bind fun j21 => (mF_inverse N (y19 j21)).bind fun y23 => mL_solve_74 N x_states k2 N l1 y23 0 y19)

def mL_solve_12 (N : Nat) (x_states : Int32) (k2 : Int32 → (Nat → Int64) → Option (Int32 × (Nat → Int64))) : Nat → Int32 → Int32 → (Nat → Int64) → Option (Int32 × (Nat → Int64))
  | 0, _, _, _ => none
  | n + 1, l1, l2, x_table =>
  if x_states ≤ l2 then (mB_solve_42 N x_states k2 l1 l2 x_table)
  else ((gd ((65 * l2) + l1) 4160).bind fun j26 => if (lg_cmp (x_table j26) 0) = 0 then ((mL_solve_12 N x_states k2 n) l1 (l2 + 1) x_table)
  else (mB_solve_42 N x_states k2 l1 l2 x_table))

def mL_solve_2 (N : Nat) (x_states : Int32)  : Nat → Int32 → (Nat → Int64) → Option (Int32 × (Nat → Int64))
  | 0, _, _ => none
  | n + 1, l1, x_table =>
  if x_states ≤ l1 then (some (1, x_table))
  else (mL_solve_12 N x_states (mL_solve_2 N x_states n) N l1 l1 x_table)

def mF_solve (N : Nat) (x_states : Int32)  (x_table : Nat → Int64) : Option (Int32 × (Nat → Int64)) :=
  mL_solve_2 N x_states N 0 x_table

/-! mean -/
def mB_mean_34 (N : Nat) (x_now : Nat → Int32)  (s0 : Int32) (x_metAt : Nat → Int32) (x_memoryAt : Nat → Int32) (x_upAt : Nat → Int32) (x_downAt : Nat → Int32) (x_isSignal : Nat → Int32) (x_memories : Nat → Int32) (x_placeOf : Nat → Int32) (x_nextPlace : Nat → Int32) (x_places : Int32) (x_kindOf : Nat → Int32) (x_newKind : Nat → Int32) (x_kinds : Int32) (x_stateOfKind : Nat → Int32) (x_stateAt : Nat → Int32) (x_stepTo : Nat → Int32) (x_states : Int32) (x_table : Nat → Int64) : Option (Int32 × (Nat → Int32) × (Nat → Int32) × (Nat → Int32) × (Nat → Int32) × (Nat → Int32) × (Nat → Int32) × (Nat → Int32) × (Nat → Int32) × Int32 × (Nat → Int32) × (Nat → Int32) × Int32 × (Nat → Int32) × (Nat → Int32) × (Nat → Int32) × Int32 × (Nat → Int64)) :=
  some (s0, x_metAt, x_memoryAt, x_upAt, x_downAt, x_isSignal, x_memories, x_placeOf, x_nextPlace, x_places, x_kindOf, x_newKind, x_kinds, x_stateOfKind, x_stateAt, x_stepTo, x_states, x_table)

def mF_mean (N : Nat) (x_now : Nat → Int32)  (x_metAt : Nat → Int32) (x_memoryAt : Nat → Int32) (x_upAt : Nat → Int32) (x_downAt : Nat → Int32) (x_isSignal : Nat → Int32) (x_memories : Nat → Int32) (x_placeOf : Nat → Int32) (x_nextPlace : Nat → Int32) (x_places : Int32) (x_kindOf : Nat → Int32) (x_newKind : Nat → Int32) (x_kinds : Int32) (x_stateOfKind : Nat → Int32) (x_stateAt : Nat → Int32) (x_stepTo : Nat → Int32) (x_states : Int32) (x_table : Nat → Int64) : Option (Int32 × (Nat → Int32) × (Nat → Int32) × (Nat → Int32) × (Nat → Int32) × (Nat → Int32) × (Nat → Int32) × (Nat → Int32) × (Nat → Int32) × Int32 × (Nat → Int32) × (Nat → Int32) × Int32 × (Nat → Int32) × (Nat → Int32) × (Nat → Int32) × Int32 × (Nat → Int64)) :=
  (mF_stateNow N x_now x_metAt x_memoryAt x_upAt x_downAt x_isSignal x_memories x_placeOf x_nextPlace x_places x_kindOf x_newKind x_kinds x_stateOfKind x_stateAt x_stepTo x_states).bind fun y1 => (mF_layTable N x_now y1.2.2.2.2.2.2.2.2.2.2.2.2.2.2.2.1 y1.2.2.2.2.2.2.2.2.2.2.2.2.2.2.2.2 x_table).bind fun y3 => (mF_solve N y1.2.2.2.2.2.2.2.2.2.2.2.2.2.2.2.2 y3).bind fun y5 => if y5.1 = 0 then (mB_mean_34 N x_now (-9) y1.2.1 y1.2.2.1 y1.2.2.2.1 y1.2.2.2.2.1 y1.2.2.2.2.2.1 y1.2.2.2.2.2.2.1 y1.2.2.2.2.2.2.2.1 y1.2.2.2.2.2.2.2.2.1 y1.2.2.2.2.2.2.2.2.2.1 y1.2.2.2.2.2.2.2.2.2.2.1 y1.2.2.2.2.2.2.2.2.2.2.2.1 y1.2.2.2.2.2.2.2.2.2.2.2.2.1 y1.2.2.2.2.2.2.2.2.2.2.2.2.2.1 y1.2.2.2.2.2.2.2.2.2.2.2.2.2.2.1 y1.2.2.2.2.2.2.2.2.2.2.2.2.2.2.2.1 y1.2.2.2.2.2.2.2.2.2.2.2.2.2.2.2.2 y5.2)
  else ((gd ((65 * y1.1) + 64) 4160).bind fun j8 => mB_mean_34 N x_now ((y5.2 j8).toInt32) y1.2.1 y1.2.2.1 y1.2.2.2.1 y1.2.2.2.2.1 y1.2.2.2.2.2.1 y1.2.2.2.2.2.2.1 y1.2.2.2.2.2.2.2.1 y1.2.2.2.2.2.2.2.2.1 y1.2.2.2.2.2.2.2.2.2.1 y1.2.2.2.2.2.2.2.2.2.2.1 y1.2.2.2.2.2.2.2.2.2.2.2.1 y1.2.2.2.2.2.2.2.2.2.2.2.2.1 y1.2.2.2.2.2.2.2.2.2.2.2.2.2.1 y1.2.2.2.2.2.2.2.2.2.2.2.2.2.2.1 y1.2.2.2.2.2.2.2.2.2.2.2.2.2.2.2.1 y1.2.2.2.2.2.2.2.2.2.2.2.2.2.2.2.2 y5.2)

/-! isSame -/
def mB_isSame_115 (N : Nat) (x_now : Nat → Int32) (x_metAt : Nat → Int32)  (l5 : Int32) : Option (Int32) :=
  if l5 = 0 ∨ l5 = 1 then some l5 else none

def mB_isSame_107 (N : Nat) (x_now : Nat → Int32) (x_metAt : Nat → Int32) (k9 : Int32 → Int32 → Int32 → Int32 → Int32 → Int32 → Option (Int32)) (s0 : Int32) (l1 : Int32) (l2 : Int32) (l3 : Int32) (l5 : Int32) (l6 : Int32) : Option (Int32) :=
  k9 l1 l2 l3 s0 l5 (l6 + 1)

def mB_isSame_94 (N : Nat) (x_now : Nat → Int32) (x_metAt : Nat → Int32) (k9 : Int32 → Int32 → Int32 → Int32 → Int32 → Int32 → Option (Int32)) (s0 : Int32) (l1 : Int32) (l2 : Int32) (l3 : Int32) (l6 : Int32) (l7 : Int32) (l8 : Int32) : Option (Int32) :=
  if l8 = 0 then (mB_isSame_107 N x_now x_metAt k9 l7 l1 l2 l3 s0 l6)
  else (mB_isSame_107 N x_now x_metAt k9 0 l1 l2 l3 s0 l6)

def mB_isSame_86 (N : Nat) (x_now : Nat → Int32) (x_metAt : Nat → Int32) (k9 : Int32 → Int32 → Int32 → Int32 → Int32 → Int32 → Option (Int32)) (s0 : Int32) (s1 : Int32) (l1 : Int32) (l2 : Int32) (l3 : Int32) (l6 : Int32) (l7 : Int32) (l8 : Int32) : Option (Int32) :=
  if s0 = s1 then (mB_isSame_94 N x_now x_metAt k9 1 l1 l2 l3 l6 l7 l8)
  else (mB_isSame_94 N x_now x_metAt k9 0 l1 l2 l3 l6 l7 l8)

def mB_isSame_67 (N : Nat) (x_now : Nat → Int32) (x_metAt : Nat → Int32) (k9 : Int32 → Int32 → Int32 → Int32 → Int32 → Int32 → Option (Int32)) (s0 : Int32) (l1 : Int32) (l2 : Int32) (l3 : Int32) (l6 : Int32) (l7 : Int32) : Option (Int32) :=
  (gd l6 40).bind fun j4 => if (x_metAt j4) = 0 then (mB_isSame_86 N x_now x_metAt k9 s0 0 l1 l2 l3 l6 l7 s0)
  else (mB_isSame_86 N x_now x_metAt k9 s0 1 l1 l2 l3 l6 l7 s0)

def mL_isSame_9 (N : Nat) (x_now : Nat → Int32) (x_metAt : Nat → Int32)  : Nat → Int32 → Int32 → Int32 → Int32 → Int32 → Int32 → Option (Int32)
  | 0, _, _, _, _, _, _ => none
  | n + 1, l1, l2, l3, l4, l5, l6 =>
  if (x_now 17) ≤ l6 then (mB_isSame_115 N x_now x_metAt l5)
  else (if l5 = 0 then (mB_isSame_115 N x_now x_metAt l5)
  else ((gd (58 + l6) 98).bind fun j9 => (mF_ones N (((2 * l4) + ((l3 >>> ((x_now j9) &&& 31)) &&& 1)) &&& (((1 : Int32) <<< (l2 &&& 31)) - 1))).bind fun y11 => if y11 < l1 then (mB_isSame_67 N x_now x_metAt (mL_isSame_9 N x_now x_metAt n) 0 l1 l2 l3 l6 (((2 * l4) + ((l3 >>> ((x_now j9) &&& 31)) &&& 1)) &&& (((1 : Int32) <<< (l2 &&& 31)) - 1)))
  else (mB_isSame_67 N x_now x_metAt (mL_isSame_9 N x_now x_metAt n) 1 l1 l2 l3 l6 (((2 * l4) + ((l3 >>> ((x_now j9) &&& 31)) &&& 1)) &&& (((1 : Int32) <<< (l2 &&& 31)) - 1)))))

def mF_isSame (N : Nat) (x_now : Nat → Int32) (x_metAt : Nat → Int32) (a0 : Int32) (a1 : Int32) (a2 : Int32)  : Option (Int32) :=
  mL_isSame_9 N x_now x_metAt N a0 a1 a2 0 1 0

/-! same -/
def mB_same_132 (N : Nat) (x_now : Nat → Int32)  (s0 : Int32) (x_metAt : Nat → Int32) (x_memoryAt : Nat → Int32) (x_upAt : Nat → Int32) (x_downAt : Nat → Int32) (x_isSignal : Nat → Int32) : Option (Int32 × (Nat → Int32) × (Nat → Int32) × (Nat → Int32) × (Nat → Int32) × (Nat → Int32)) :=
  some (s0, x_metAt, x_memoryAt, x_upAt, x_downAt, x_isSignal)

def mB_same_104 (N : Nat) (x_now : Nat → Int32) (k23 : Int32 → Int32 → Int32 → Int32 → (Nat → Int32) → (Nat → Int32) → (Nat → Int32) → (Nat → Int32) → (Nat → Int32) → Option (Int32 × (Nat → Int32) × (Nat → Int32) × (Nat → Int32) × (Nat → Int32) × (Nat → Int32))) (k32 : Int32 → Int32 → Int32 → Int32 → Int32 → (Nat → Int32) → (Nat → Int32) → (Nat → Int32) → (Nat → Int32) → (Nat → Int32) → Option (Int32 × (Nat → Int32) × (Nat → Int32) × (Nat → Int32) × (Nat → Int32) × (Nat → Int32))) (k42 : Int32 → Int32 → Int32 → Int32 → Int32 → Int32 → (Nat → Int32) → (Nat → Int32) → (Nat → Int32) → (Nat → Int32) → (Nat → Int32) → Option (Int32 × (Nat → Int32) × (Nat → Int32) × (Nat → Int32) × (Nat → Int32) × (Nat → Int32))) (s0 : Int32) (l1 : Int32) (l2 : Int32) (l4 : Int32) (l5 : Int32) (l6 : Int32) (x_metAt : Nat → Int32) (x_memoryAt : Nat → Int32) (x_upAt : Nat → Int32) (x_downAt : Nat → Int32) (x_isSignal : Nat → Int32) : Option (Int32 × (Nat → Int32) × (Nat → Int32) × (Nat → Int32) × (Nat → Int32) × (Nat → Int32)) :=
  k42 l1 l2 s0 l4 l5 (l6 + 1) x_metAt x_memoryAt x_upAt x_downAt x_isSignal

def mB_same_103 (N : Nat) (x_now : Nat → Int32) (k23 : Int32 → Int32 → Int32 → Int32 → (Nat → Int32) → (Nat → Int32) → (Nat → Int32) → (Nat → Int32) → (Nat → Int32) → Option (Int32 × (Nat → Int32) × (Nat → Int32) × (Nat → Int32) × (Nat → Int32) × (Nat → Int32))) (k32 : Int32 → Int32 → Int32 → Int32 → Int32 → (Nat → Int32) → (Nat → Int32) → (Nat → Int32) → (Nat → Int32) → (Nat → Int32) → Option (Int32 × (Nat → Int32) × (Nat → Int32) × (Nat → Int32) × (Nat → Int32) × (Nat → Int32))) (k42 : Int32 → Int32 → Int32 → Int32 → Int32 → Int32 → (Nat → Int32) → (Nat → Int32) → (Nat → Int32) → (Nat → Int32) → (Nat → Int32) → Option (Int32 × (Nat → Int32) × (Nat → Int32) × (Nat → Int32) × (Nat → Int32) × (Nat → Int32))) (l1 : Int32) (l2 : Int32) (l3 : Int32) (l4 : Int32) (l5 : Int32) (l6 : Int32) (x_metAt : Nat → Int32) (x_memoryAt : Nat → Int32) (x_upAt : Nat → Int32) (x_downAt : Nat → Int32) (x_isSignal : Nat → Int32) : Option (Int32 × (Nat → Int32) × (Nat → Int32) × (Nat → Int32) × (Nat → Int32) × (Nat → Int32)) :=
  mB_same_104 N x_now k23 k32 k42 l3 l1 l2 l4 l5 l6 x_metAt x_memoryAt x_upAt x_downAt x_isSignal

def mB_same_72 (N : Nat) (x_now : Nat → Int32) (k23 : Int32 → Int32 → Int32 → Int32 → (Nat → Int32) → (Nat → Int32) → (Nat → Int32) → (Nat → Int32) → (Nat → Int32) → Option (Int32 × (Nat → Int32) × (Nat → Int32) × (Nat → Int32) × (Nat → Int32) × (Nat → Int32))) (k32 : Int32 → Int32 → Int32 → Int32 → Int32 → (Nat → Int32) → (Nat → Int32) → (Nat → Int32) → (Nat → Int32) → (Nat → Int32) → Option (Int32 × (Nat → Int32) × (Nat → Int32) × (Nat → Int32) × (Nat → Int32) × (Nat → Int32))) (k42 : Int32 → Int32 → Int32 → Int32 → Int32 → Int32 → (Nat → Int32) → (Nat → Int32) → (Nat → Int32) → (Nat → Int32) → (Nat → Int32) → Option (Int32 × (Nat → Int32) × (Nat → Int32) × (Nat → Int32) × (Nat → Int32) × (Nat → Int32))) (s0 : Int32) (s1 : Int32) (l1 : Int32) (l3 : Int32) (l4 : Int32) (l5 : Int32) (l6 : Int32) (l7 : Int32) (x_metAt : Nat → Int32) (x_memoryAt : Nat → Int32) (x_upAt : Nat → Int32) (x_downAt : Nat → Int32) (x_isSignal : Nat → Int32) : Option (Int32 × (Nat → Int32) × (Nat → Int32) × (Nat → Int32) × (Nat → Int32) × (Nat → Int32)) :=
  if l7 = 0 then (mB_same_103 N x_now k23 k32 k42 l1 (s0 + s1) l3 l4 l5 l6 x_metAt x_memoryAt x_upAt x_downAt x_isSignal)
  else (if l3 = (-9) then (mB_same_104 N x_now k23 k32 k42 (((1000 * l4) + (100 * l5)) + l6) l1 (s0 + s1) l4 l5 l6 x_metAt x_memoryAt x_upAt x_downAt x_isSignal)
  else (mB_same_103 N x_now k23 k32 k42 l1 (s0 + s1) l3 l4 l5 l6 x_metAt x_memoryAt x_upAt x_downAt x_isSignal))

def mL_same_42 (N : Nat) (x_now : Nat → Int32) (k23 : Int32 → Int32 → Int32 → Int32 → (Nat → Int32) → (Nat → Int32) → (Nat → Int32) → (Nat → Int32) → (Nat → Int32) → Option (Int32 × (Nat → Int32) × (Nat → Int32) × (Nat → Int32) × (Nat → Int32) × (Nat → Int32))) (k32 : Int32 → Int32 → Int32 → Int32 → Int32 → (Nat → Int32) → (Nat → Int32) → (Nat → Int32) → (Nat → Int32) → (Nat → Int32) → Option (Int32 × (Nat → Int32) × (Nat → Int32) × (Nat → Int32) × (Nat → Int32) × (Nat → Int32))) : Nat → Int32 → Int32 → Int32 → Int32 → Int32 → Int32 → (Nat → Int32) → (Nat → Int32) → (Nat → Int32) → (Nat → Int32) → (Nat → Int32) → Option (Int32 × (Nat → Int32) × (Nat → Int32) × (Nat → Int32) × (Nat → Int32) × (Nat → Int32))
  | 0, _, _, _, _, _, _, _, _, _, _, _ => none
  | n + 1, l1, l2, l3, l4, l5, l6, x_metAt, x_memoryAt, x_upAt, x_downAt, x_isSignal =>
  if 32 ≤ l6 then (k32 l1 l2 l3 l4 (l5 + 1) x_metAt x_memoryAt x_upAt x_downAt x_isSignal)
  else ((mF_isSame N x_now x_metAt l5 l4 l6).bind fun y4 => if y4 = 0 then (mB_same_72 N x_now k23 k32 (mL_same_42 N x_now k23 k32 n) l2 0 l1 l3 l4 l5 l6 y4 x_metAt x_memoryAt x_upAt x_downAt x_isSignal)
  else (mB_same_72 N x_now k23 k32 (mL_same_42 N x_now k23 k32 n) l2 1 l1 l3 l4 l5 l6 y4 x_metAt x_memoryAt x_upAt x_downAt x_isSignal))

def mL_same_32 (N : Nat) (x_now : Nat → Int32) (k23 : Int32 → Int32 → Int32 → Int32 → (Nat → Int32) → (Nat → Int32) → (Nat → Int32) → (Nat → Int32) → (Nat → Int32) → Option (Int32 × (Nat → Int32) × (Nat → Int32) × (Nat → Int32) × (Nat → Int32) × (Nat → Int32))) : Nat → Int32 → Int32 → Int32 → Int32 → Int32 → (Nat → Int32) → (Nat → Int32) → (Nat → Int32) → (Nat → Int32) → (Nat → Int32) → Option (Int32 × (Nat → Int32) × (Nat → Int32) × (Nat → Int32) × (Nat → Int32) × (Nat → Int32))
  | 0, _, _, _, _, _, _, _, _, _, _ => none
  | n + 1, l1, l2, l3, l4, l5, x_metAt, x_memoryAt, x_upAt, x_downAt, x_isSignal =>
  if l4 < l5 then (k23 l1 l2 l3 (l4 + 1) x_metAt x_memoryAt x_upAt x_downAt x_isSignal)
  else (mL_same_42 N x_now k23 (mL_same_32 N x_now k23 n) N l1 l2 l3 l4 l5 1 x_metAt x_memoryAt x_upAt x_downAt x_isSignal)

def mL_same_23 (N : Nat) (x_now : Nat → Int32)  : Nat → Int32 → Int32 → Int32 → Int32 → (Nat → Int32) → (Nat → Int32) → (Nat → Int32) → (Nat → Int32) → (Nat → Int32) → Option (Int32 × (Nat → Int32) × (Nat → Int32) × (Nat → Int32) × (Nat → Int32) × (Nat → Int32))
  | 0, _, _, _, _, _, _, _, _, _ => none
  | n + 1, l1, l2, l3, l4, x_metAt, x_memoryAt, x_upAt, x_downAt, x_isSignal =>
  if 4 < l4 then (if l1 = 0 then (mB_same_132 N x_now l2 x_metAt x_memoryAt x_upAt x_downAt x_isSignal)
  else (mB_same_132 N x_now l3 x_metAt x_memoryAt x_upAt x_downAt x_isSignal))
  else (mL_same_32 N x_now (mL_same_23 N x_now n) N l1 l2 l3 l4 1 x_metAt x_memoryAt x_upAt x_downAt x_isSignal)

def mF_same (N : Nat) (x_now : Nat → Int32) (a0 : Int32) (x_metAt : Nat → Int32) (x_memoryAt : Nat → Int32) (x_upAt : Nat → Int32) (x_downAt : Nat → Int32) (x_isSignal : Nat → Int32) : Option (Int32 × (Nat → Int32) × (Nat → Int32) × (Nat → Int32) × (Nat → Int32) × (Nat → Int32)) :=
  (mF_in N a0 0 1).bind fun y10 => if y10 = 0 then (some ((-1), x_metAt, x_memoryAt, x_upAt, x_downAt, x_isSignal))
  else ((mF_goThrough N x_now x_metAt x_memoryAt x_upAt x_downAt x_isSignal).bind fun y13 => mL_same_23 N x_now N a0 0 (-9) 1 y13.1 y13.2.1 y13.2.2.1 y13.2.2.2.1 y13.2.2.2.2)

/-! keep -/
def mF_keep (N : Nat) (x_now : Nat → Int32) (a0 : Int32) (x_images : Nat → Int32) (x_isKept : Nat → Int32) : Option (Int32 × (Nat → Int32) × (Nat → Int32)) :=
  (mF_in N a0 0 1).bind fun y1 => if y1 = 0 then (some ((-1), x_images, x_isKept))
  else ((mF_bring N 98 196 x_now 0 x_images (98 * a0)).bind fun y4 => (gd a0 2).bind fun j6 => some (x_now 17, y4, (upd x_isKept j6 (vp_nar .boolean 1))))

/-! back -/
def mF_back (N : Nat) (x_images : Nat → Int32) (x_isKept : Nat → Int32) (a0 : Int32) (x_now : Nat → Int32) (x_deeds : Int32) : Option (Int32 × (Nat → Int32) × Int32) :=
  (mF_in N a0 0 1).bind fun y1 => if y1 = 0 then (some ((-1), x_now, x_deeds))
  else ((gd a0 2).bind fun j4 => if (x_isKept j4) = 0 then (some ((-2), x_now, x_deeds))
  else ((mF_bring N 196 98 x_images (98 * a0) x_now 0).bind fun y7 => some (y7 17, y7, 0)))

/-! count -/
def mB_count_133 (N : Nat) (x_now : Nat → Int32) (x_deeds : Int32) (x_letters : Int32)  (s0 : Int32) (x_metAt : Nat → Int32) (x_memoryAt : Nat → Int32) (x_upAt : Nat → Int32) (x_downAt : Nat → Int32) (x_isSignal : Nat → Int32) (x_memories : Nat → Int32) (x_placeOf : Nat → Int32) (x_nextPlace : Nat → Int32) (x_places : Int32) (x_kindOf : Nat → Int32) (x_newKind : Nat → Int32) (x_kinds : Int32) (x_stateOfKind : Nat → Int32) (x_stateAt : Nat → Int32) (x_stepTo : Nat → Int32) (x_states : Int32) : Option (Int32 × (Nat → Int32) × (Nat → Int32) × (Nat → Int32) × (Nat → Int32) × (Nat → Int32) × (Nat → Int32) × (Nat → Int32) × (Nat → Int32) × Int32 × (Nat → Int32) × (Nat → Int32) × Int32 × (Nat → Int32) × (Nat → Int32) × (Nat → Int32) × Int32) :=
  some (s0, x_metAt, x_memoryAt, x_upAt, x_downAt, x_isSignal, x_memories, x_placeOf, x_nextPlace, x_places, x_kindOf, x_newKind, x_kinds, x_stateOfKind, x_stateAt, x_stepTo, x_states)

def mB_count_166 (N : Nat) (x_now : Nat → Int32) (x_deeds : Int32) (x_letters : Int32)  (s0 : Int32) (x_metAt : Nat → Int32) (x_memoryAt : Nat → Int32) (x_upAt : Nat → Int32) (x_downAt : Nat → Int32) (x_isSignal : Nat → Int32) (x_memories : Nat → Int32) (x_placeOf : Nat → Int32) (x_nextPlace : Nat → Int32) (x_places : Int32) (x_kindOf : Nat → Int32) (x_newKind : Nat → Int32) (x_kinds : Int32) (x_stateOfKind : Nat → Int32) (x_stateAt : Nat → Int32) (x_stepTo : Nat → Int32) (x_states : Int32) : Option (Int32 × (Nat → Int32) × (Nat → Int32) × (Nat → Int32) × (Nat → Int32) × (Nat → Int32) × (Nat → Int32) × (Nat → Int32) × (Nat → Int32) × Int32 × (Nat → Int32) × (Nat → Int32) × Int32 × (Nat → Int32) × (Nat → Int32) × (Nat → Int32) × Int32) :=
  some (s0, x_metAt, x_memoryAt, x_upAt, x_downAt, x_isSignal, x_memories, x_placeOf, x_nextPlace, x_places, x_kindOf, x_newKind, x_kinds, x_stateOfKind, x_stateAt, x_stepTo, x_states)

def mF_count (N : Nat) (x_now : Nat → Int32) (x_deeds : Int32) (x_letters : Int32) (a0 : Int32) (x_metAt : Nat → Int32) (x_memoryAt : Nat → Int32) (x_upAt : Nat → Int32) (x_downAt : Nat → Int32) (x_isSignal : Nat → Int32) (x_memories : Nat → Int32) (x_placeOf : Nat → Int32) (x_nextPlace : Nat → Int32) (x_places : Int32) (x_kindOf : Nat → Int32) (x_newKind : Nat → Int32) (x_kinds : Int32) (x_stateOfKind : Nat → Int32) (x_stateAt : Nat → Int32) (x_stepTo : Nat → Int32) (x_states : Int32) : Option (Int32 × (Nat → Int32) × (Nat → Int32) × (Nat → Int32) × (Nat → Int32) × (Nat → Int32) × (Nat → Int32) × (Nat → Int32) × (Nat → Int32) × Int32 × (Nat → Int32) × (Nat → Int32) × Int32 × (Nat → Int32) × (Nat → Int32) × (Nat → Int32) × Int32) :=
  if a0 = 0 then (some (x_now 0, x_metAt, x_memoryAt, x_upAt, x_downAt, x_isSignal, x_memories, x_placeOf, x_nextPlace, x_places, x_kindOf, x_newKind, x_kinds, x_stateOfKind, x_stateAt, x_stepTo, x_states))
  else (if a0 = 1 then (some (x_now 17, x_metAt, x_memoryAt, x_upAt, x_downAt, x_isSignal, x_memories, x_placeOf, x_nextPlace, x_places, x_kindOf, x_newKind, x_kinds, x_stateOfKind, x_stateAt, x_stepTo, x_states))
  else (if a0 = 2 then ((mF_build N x_now x_memories x_placeOf x_nextPlace x_places x_kindOf x_newKind x_kinds x_stateOfKind x_stateAt x_stepTo x_states).bind fun y4 => some (y4.2.2.2.2.2.2.2.2.2.2, x_metAt, x_memoryAt, x_upAt, x_downAt, x_isSignal, y4.1, y4.2.1, y4.2.2.1, y4.2.2.2.1, y4.2.2.2.2.1, y4.2.2.2.2.2.1, y4.2.2.2.2.2.2.1, y4.2.2.2.2.2.2.2.1, y4.2.2.2.2.2.2.2.2.1, y4.2.2.2.2.2.2.2.2.2.1, y4.2.2.2.2.2.2.2.2.2.2))
  else (if a0 = 3 then ((mF_stateNow N x_now x_metAt x_memoryAt x_upAt x_downAt x_isSignal x_memories x_placeOf x_nextPlace x_places x_kindOf x_newKind x_kinds x_stateOfKind x_stateAt x_stepTo x_states).bind fun y7 => some (y7.1, y7.2.1, y7.2.2.1, y7.2.2.2.1, y7.2.2.2.2.1, y7.2.2.2.2.2.1, y7.2.2.2.2.2.2.1, y7.2.2.2.2.2.2.2.1, y7.2.2.2.2.2.2.2.2.1, y7.2.2.2.2.2.2.2.2.2.1, y7.2.2.2.2.2.2.2.2.2.2.1, y7.2.2.2.2.2.2.2.2.2.2.2.1, y7.2.2.2.2.2.2.2.2.2.2.2.2.1, y7.2.2.2.2.2.2.2.2.2.2.2.2.2.1, y7.2.2.2.2.2.2.2.2.2.2.2.2.2.2.1, y7.2.2.2.2.2.2.2.2.2.2.2.2.2.2.2.1, y7.2.2.2.2.2.2.2.2.2.2.2.2.2.2.2.2))
  else (if a0 = 4 then (some (x_now 15, x_metAt, x_memoryAt, x_upAt, x_downAt, x_isSignal, x_memories, x_placeOf, x_nextPlace, x_places, x_kindOf, x_newKind, x_kinds, x_stateOfKind, x_stateAt, x_stepTo, x_states))
  else (if a0 = 5 then (some (x_now 16, x_metAt, x_memoryAt, x_upAt, x_downAt, x_isSignal, x_memories, x_placeOf, x_nextPlace, x_places, x_kindOf, x_newKind, x_kinds, x_stateOfKind, x_stateAt, x_stepTo, x_states))
  else (if a0 = 6 then ((mF_goThrough N x_now x_metAt x_memoryAt x_upAt x_downAt x_isSignal).bind fun y12 => if (x_now 17) = 0 then (mB_count_133 N x_now x_deeds x_letters 0 y12.1 y12.2.1 y12.2.2.1 y12.2.2.2.1 y12.2.2.2.2 x_memories x_placeOf x_nextPlace x_places x_kindOf x_newKind x_kinds x_stateOfKind x_stateAt x_stepTo x_states)
  else ((gd ((x_now 17) - 1) 40).bind fun j15 => mB_count_133 N x_now x_deeds x_letters (y12.2.2.1 j15) y12.1 y12.2.1 y12.2.2.1 y12.2.2.2.1 y12.2.2.2.2 x_memories x_placeOf x_nextPlace x_places x_kindOf x_newKind x_kinds x_stateOfKind x_stateAt x_stepTo x_states))
  else (if a0 = 7 then ((mF_goThrough N x_now x_metAt x_memoryAt x_upAt x_downAt x_isSignal).bind fun y18 => if (x_now 17) = 0 then (mB_count_166 N x_now x_deeds x_letters 0 y18.1 y18.2.1 y18.2.2.1 y18.2.2.2.1 y18.2.2.2.2 x_memories x_placeOf x_nextPlace x_places x_kindOf x_newKind x_kinds x_stateOfKind x_stateAt x_stepTo x_states)
  else ((gd ((x_now 17) - 1) 40).bind fun j21 => mB_count_166 N x_now x_deeds x_letters (y18.2.2.2.1 j21) y18.1 y18.2.1 y18.2.2.1 y18.2.2.2.1 y18.2.2.2.2 x_memories x_placeOf x_nextPlace x_places x_kindOf x_newKind x_kinds x_stateOfKind x_stateAt x_stepTo x_states))
  else (if a0 = 8 then (some (x_letters, x_metAt, x_memoryAt, x_upAt, x_downAt, x_isSignal, x_memories, x_placeOf, x_nextPlace, x_places, x_kindOf, x_newKind, x_kinds, x_stateOfKind, x_stateAt, x_stepTo, x_states))
  else (if a0 = 9 then (some (x_deeds, x_metAt, x_memoryAt, x_upAt, x_downAt, x_isSignal, x_memories, x_placeOf, x_nextPlace, x_places, x_kindOf, x_newKind, x_kinds, x_stateOfKind, x_stateAt, x_stepTo, x_states))
  else (some ((-1), x_metAt, x_memoryAt, x_upAt, x_downAt, x_isSignal, x_memories, x_placeOf, x_nextPlace, x_places, x_kindOf, x_newKind, x_kinds, x_stateOfKind, x_stateAt, x_stepTo, x_states)))))))))))

