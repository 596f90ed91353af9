/-! what the methods compute over the ghost heap (printed by gen/heap.py) -/
/-! J0_init -/
def hF_J0_init (V : HEn) (G : Gh) (nx : Nat) (o : Nat) : HO (Unit) :=
  some ((), G, 0, 0)

/-! J1_init -/
def hF_J1_init (V : HEn) (G : Gh) (nx : Nat) (o : Nat) : HO (Unit) :=
  cB (hF_J0_init V G nx o) fun y101 G102 c103 => (xF V.1 G102 o fl_AbstractList_modCount (.int 0)).bind fun G108 => some ((), G108, 0, 0)

/-! J2_init -/
def hF_J2_init (V : HEn) (G : Gh) (nx : Nat) (o : Nat) : HO (Unit) :=
  cB (hF_J1_init V G nx o) fun y101 G102 c103 => (xF V.1 G102 o fl_ArrayList_elementData (va_rf (V.2.2.1 0))).bind fun G108 => some ((), G108, 0, 0)

/-! X2_init -/
def hF_X2_init (V : HEn) (G : Gh) (nx : Nat) (o : Nat) : HO (Unit) :=
  tick 1 3 (cB (hF_J2_init V (gset G nx (.inr (8, [.int 0, .null, .int 0]))) (nx + 1) nx) fun y103 G104 c105 => (xF V.1 G104 o fl_RunWatch_Plan_rules (va_rf (some nx))).bind fun G110 => (gn 5).bind fun n112 => tick 1 n112 ((wrI V.1 (gset G110 ((nx + 1) + c105) (.inl (V.2.1 0, n112, .inl (fun _ => 0)))) (V.2.1 0) ((nx + 1) + c105) 0 1).bind fun G116 => (wrI V.1 G116 (V.2.1 0) ((nx + 1) + c105) 1 2).bind fun G118 => (wrI V.1 G118 (V.2.1 0) ((nx + 1) + c105) 2 4).bind fun G120 => (wrI V.1 G120 (V.2.1 0) ((nx + 1) + c105) 3 2).bind fun G122 => (wrI V.1 G122 (V.2.1 0) ((nx + 1) + c105) 4 1).bind fun G124 => (xF V.1 G124 o fl_RunWatch_Plan_chances (va_rf (some ((nx + 1) + c105)))).bind fun G126 => (xF V.1 G126 o fl_RunWatch_Plan_slack (.int 1)).bind fun G128 => (xF V.1 G128 o fl_RunWatch_Plan_limit (.int 4)).bind fun G130 => some ((), G130, 0, 0)))

/-! J3_init -/
def hF_J3_init (V : HEn) (G : Gh) (nx : Nat) (o : Nat) : HO (Unit) :=
  some ((), G, 0, 0)

/-! J4_init -/
def hF_J4_init (V : HEn) (G : Gh) (nx : Nat) (o : Nat) : HO (Unit) :=
  cB (hF_J3_init V G nx o) fun y101 G102 c103 => (xF V.1 G102 o fl_TreeMap_size (.int 0)).bind fun G108 => (xF V.1 G108 o fl_TreeMap_modCount (.int 0)).bind fun G110 => (xF V.1 G110 o fl_TreeMap_comparator (va_rf none)).bind fun G112 => some ((), G112, 0, 0)

/-! X1_init -/
def hF_X1_init (V : HEn) (G : Gh) (nx : Nat) (o : Nat) : HO (Unit) :=
  tick 1 5 (cB (hF_X2_init V (gset G nx (.inr (2, [.null, .null, .int 0, .int 0, .null]))) (nx + 1) nx) fun y103 G104 c105 => (xF V.1 G104 o fl_RunWatch_Desk_plan (va_rf (some nx))).bind fun G110 => tick 1 9 (cB (hF_J4_init V (gset G110 ((nx + 1) + c105) (.inr (10, [.null, .null, .null, .null, .int 0, .int 0, .null, .null, .null]))) (((nx + 1) + c105) + 1) ((nx + 1) + c105)) fun y114 G115 c116 => (xF V.1 G115 o fl_RunWatch_Desk_rows (va_rf (some ((nx + 1) + c105)))).bind fun G121 => some ((), G121, 0, 0)))

/-! J5_init -/
def hF_J5_init (V : HEn) (G : Gh) (nx : Nat) (o : Nat) (a0 : Int32) : HO (Unit) :=
  if (1 : Int32) = 0 then (none)
  else ((gn a0).bind fun n102 => tick 1 n102 ((xF V.1 (gset G nx (.inl (V.2.1 1, n102, .inl (fun _ => 0)))) o fl_AbstractStringBuilder_value (va_rf (some nx))).bind fun G106 => (xF V.1 G106 o fl_AbstractStringBuilder_coder (.int 0)).bind fun G108 => some ((), G108, 0, 0)))

/-! J6_init -/
def hF_J6_init (V : HEn) (G : Gh) (nx : Nat) (o : Nat) : HO (Unit) :=
  cB (hF_J5_init V G nx o 16) fun y101 G102 c103 => some ((), G102, 0, 0)

/-! X0_init -/
def hB_X0_init_40 (V : HEn) (o : Nat)  (G : Gh) (nx : Nat) (s0 : Option Nat) (s1 : Option Nat) : HO (Unit) :=
  (s0).bind fun a1 => (xF V.1 G a1 fl_RunWatch_rows (va_rf s1)).bind fun G3 => tick 1 4 (cB (hF_J6_init V (gset G3 nx (.inr (24, [.null, .int 0, .int 0, .int 0]))) (nx + 1) nx) fun y7 G8 c9 => (xF V.1 G8 o fl_RunWatch_text (va_rf (some nx))).bind fun G14 => some ((), G14, 0, 0))

def hF_X0_init (V : HEn) (G : Gh) (nx : Nat) (o : Nat) : HO (Unit) :=
  tick 1 2 (cB (hF_X1_init V (gset G nx (.inr (1, [.null, .null]))) (nx + 1) nx) fun y118 G119 c120 => (xF V.1 G119 o fl_RunWatch_now (va_rf (some nx))).bind fun G125 => (gn 6).bind fun n127 => tick 1 n127 ((xF V.1 (gset G125 ((nx + 1) + c120) (.inl (V.2.1 5, n127, .inr (.inr (.inr (.inr (fun _ => none))))))) o fl_RunWatch_done (va_rf (some ((nx + 1) + c120)))).bind fun G131 => (gn 2).bind fun n133 => tick 1 n133 ((xF V.1 (gset G131 (((nx + 1) + c120) + 1) (.inl (V.2.1 5, n133, .inr (.inr (.inr (.inr (fun _ => none))))))) o fl_RunWatch_images (va_rf (some (((nx + 1) + c120) + 1)))).bind fun G137 => tick 1 3 (cB (hF_J2_init V (gset G137 ((((nx + 1) + c120) + 1) + 1) (.inr (8, [.int 0, .null, .int 0]))) (((((nx + 1) + c120) + 1) + 1) + 1) ((((nx + 1) + c120) + 1) + 1)) fun y141 G142 c143 => hB_X0_init_40 V o G142 ((((((nx + 1) + c120) + 1) + 1) + 1) + c143) (some o) (some ((((nx + 1) + c120) + 1) + 1))))))

/-! J16_init -/
def hF_J16_init (V : HEn) (G : Gh) (nx : Nat) (o : Nat) (a0 : Option Nat) : HO (Unit) :=
  (xF V.1 G o fl_ArrayList_Itr_this_0 (va_rf a0)).bind fun G101 => (xF V.1 G101 o fl_ArrayList_Itr_lastRet (.int (-1))).bind fun G103 => (xR G103 o fl_ArrayList_Itr_this_0).bind fun r105 => (r105).bind fun a107 => (xI G103 a107 fl_AbstractList_modCount).bind fun v109 => (xF V.1 G103 o fl_ArrayList_Itr_expectedModCount (.int v109)).bind fun G111 => some ((), G111, 0, 0)

/-! J2_iterator -/
def hF_J2_iterator (V : HEn) (G : Gh) (nx : Nat) (o : Nat) : HO (Option Nat) :=
  tick 1 4 (cB (hF_J16_init V (gset G nx (.inr (9, [.int 0, .int 0, .int 0, .null]))) (nx + 1) nx (some o)) fun y103 G104 c105 => some ((some nx), G104, 0, 0))

/-! J16_hasNext -/
def hB_J16_hasNext_19 (V : HEn) (o : Nat)  (G : Gh) (nx : Nat) (s0 : Int32) : HO (Int32) :=
  if vp_nar .boolean s0 = s0 then some (s0, G, 0, 0) else none

def hF_J16_hasNext (V : HEn) (G : Gh) (nx : Nat) (o : Nat) : HO (Int32) :=
  (xI G o fl_ArrayList_Itr_cursor).bind fun v102 => (xR G o fl_ArrayList_Itr_this_0).bind fun r104 => (r104).bind fun a106 => (xI G a106 fl_ArrayList_size).bind fun v108 => if v102 = v108 then (hB_J16_hasNext_19 V o G nx 0)
  else (hB_J16_hasNext_19 V o G nx 1)

/-! J16_checkForComodification -/
def hF_J16_checkForComodification (V : HEn) (G : Gh) (nx : Nat) (o : Nat) : HO (Unit) :=
  (xR G o fl_ArrayList_Itr_this_0).bind fun r101 => (r101).bind fun a103 => (xI G a103 fl_AbstractList_modCount).bind fun v105 => (xI G o fl_ArrayList_Itr_expectedModCount).bind fun v107 => if v105 = v107 then (some ((), G, 0, 0))
  else (none)

/-! J16_next -/
def hF_J16_next (V : HEn) (G : Gh) (nx : Nat) (o : Nat) : HO (Option Nat) :=
  if gC G o 9 = true then cB (hF_J16_checkForComodification V G nx o) fun y102 G103 c104 => (xI G103 o fl_ArrayList_Itr_cursor).bind fun v109 => (xR G103 o fl_ArrayList_Itr_this_0).bind fun r111 => (r111).bind fun a113 => (xI G103 a113 fl_ArrayList_size).bind fun v115 => if v109 < v115 then ((xR G103 o fl_ArrayList_Itr_this_0).bind fun r118 => (r118).bind fun a120 => (xR G103 a120 fl_ArrayList_elementData).bind fun r122 => (r122).bind fun a124 => (aln G103 (V.2.1 3) a124).bind fun n126 => if v109 < n126 then ((xF V.1 G103 o fl_ArrayList_Itr_cursor (.int (v109 + 1))).bind fun G129 => (xF V.1 G129 o fl_ArrayList_Itr_lastRet (.int v109)).bind fun G131 => (rdR G131 (V.2.1 3) a124 v109).bind fun r133 => some (r133, G131, 0, 0))
  else (none))
  else (none) else none

/-! X0_lambda_alarm_0 -/
def hB_X0_lambda_alarm_0_12 (V : HEn)  (G : Gh) (nx : Nat) (s0 : Int32) : HO (Int32) :=
  if vp_nar .boolean s0 = s0 then some (s0, G, 0, 0) else none

def hF_X0_lambda_alarm_0 (V : HEn) (G : Gh) (nx : Nat) (a0 : Option Nat) : HO (Int32) :=
  (a0).bind fun a102 => (xI G a102 fl_RunWatch_Row_met).bind fun v104 => if v104 = 0 then (hB_X0_lambda_alarm_0_12 V G nx 0)
  else (hB_X0_lambda_alarm_0_12 V G nx 1)

/-! X0_lambda_signal_1 -/
def hF_X0_lambda_signal_1 (V : HEn) (G : Gh) (nx : Nat) (a0 : Option Nat) : HO (Int32) :=
  (a0).bind fun a101 => (xI G a101 fl_RunWatch_Row_isSignal).bind fun v103 => if vp_nar .boolean v103 = v103 then some (v103, G, 0, 0) else none

/-! X0_time -/
def hD_X0_time_45 (V : HEn) (G : Gh) (nx : Nat) (b : Nat) (x0 : Option Nat) : HO (Int32) :=
  if b = V.2.2.2.1 30 then hF_X0_lambda_alarm_0 V G nx x0 else (if b = V.2.2.2.1 31 then hF_X0_lambda_signal_1 V G nx x0 else (none))

def hB_X0_time_81 (V : HEn) (o : Nat)  (G : Gh) (nx : Nat) (s0 : Int32) : HO (Int32) :=
  some (s0, G, 0, 0)

def hB_X0_time_67 (V : HEn) (o : Nat) (k20 : Gh → Nat → Int32 → Option Nat → Int32 → Option Nat → HO (Int32)) (G : Gh) (nx : Nat) (l1 : Int32) (l2 : Option Nat) (l3 : Int32) (l4 : Option Nat) : HO (Int32) :=
  k20 G nx l1 l2 l3 l4

def hL_X0_time_20 (V : HEn) (o : Nat)  : Nat → Gh → Nat → Int32 → Option Nat → Int32 → Option Nat → HO (Int32)
  | 0, _, _, _, _, _, _ => none
  | n + 1, G, nx, l1, l2, l3, l4 =>
  (l4).bind fun a1 => if gC G a1 9 = true then cB (hF_J16_hasNext V G nx a1) fun y4 G5 c6 => if y4 = 0 then (if l1 = (-1) then (hB_X0_time_81 V o G5 (nx + c6) l3)
  else (hB_X0_time_81 V o G5 (nx + c6) (-9)))
  else (if gC G5 a1 9 = true then cB (hF_J16_next V G5 (nx + c6) a1) fun r14 G15 c16 => if gok G15 r14 [6] = true then (l2).bind fun a22 => cB (hD_X0_time_45 V G15 ((nx + c6) + c16) a22 r14) fun y24 G25 c26 => if y24 = 0 then (hB_X0_time_67 V o (hL_X0_time_20 V o n) G25 (((nx + c6) + c16) + c26) l1 (some a22) l3 (some a1))
  else (if l3 = l1 then ((r14).bind fun a33 => (xI G25 a33 fl_RunWatch_Row_time).bind fun v35 => some (v35, G25, 0, 0))
  else (hB_X0_time_67 V o (hL_X0_time_20 V o n) G25 (((nx + c6) + c16) + c26) l1 (some a22) (l3 + 1) (some a1))) else none else none) else none

def hF_X0_time (V : HEn) (G : Gh) (nx : Nat) (o : Nat) (a0 : Int32) (a1 : Option Nat) : HO (Int32) :=
  if (-1) ≤ a0 then ((xR G o fl_RunWatch_rows).bind fun r138 => (r138).bind fun a140 => if gC G a140 8 = true then cB (hF_J2_iterator V G nx a140) fun r143 G144 c145 => hL_X0_time_20 V o V.2.2.2.2 G144 (nx + c145) a0 a1 0 r143 else none)
  else (some ((-1), G, 0, 0))

/-! X0_alarm -/
def hF_X0_alarm (V : HEn) (G : Gh) (nx : Nat) (o : Nat) (a0 : Int32) : HO (Int32) :=
  if gC G o 0 = true then cB (hF_X0_time V G nx o a0 (some (V.2.2.2.1 30))) fun y102 G103 c104 => some (y102, G103, 0, 0) else none

/-! X0_isIn -/
def hB_X0_isIn_15 (V : HEn)  (G : Gh) (nx : Nat) (s0 : Int32) : HO (Int32) :=
  if vp_nar .boolean s0 = s0 then some (s0, G, 0, 0) else none

def hB_X0_isIn_14 (V : HEn)  (G : Gh) (nx : Nat)  : HO (Int32) :=
  hB_X0_isIn_15 V G nx 0

def hF_X0_isIn (V : HEn) (G : Gh) (nx : Nat) (a0 : Int32) (a1 : Int32) (a2 : Int32) : HO (Int32) :=
  if a0 < a1 then (hB_X0_isIn_14 V G nx)
  else (if a2 < a0 then (hB_X0_isIn_14 V G nx)
  else (hB_X0_isIn_15 V G nx 1))

/-! J4_size -/
def hF_J4_size (V : HEn) (G : Gh) (nx : Nat) (o : Nat) : HO (Int32) :=
  (xI G o fl_TreeMap_size).bind fun v101 => some (v101, G, 0, 0)

/-! J4_comparator -/
def hF_J4_comparator (V : HEn) (G : Gh) (nx : Nat) (o : Nat) : HO (Option Nat) :=
  (xR G o fl_TreeMap_comparator).bind fun r101 => some (r101, G, 0, 0)

/-! J26_equals -/
def hB_J26_equals_22 (V : HEn)  (G : Gh) (nx : Nat) (s0 : Int32) : HO (Int32) :=
  if vp_nar .boolean s0 = s0 then some (s0, G, 0, 0) else none

def hF_J26_equals (V : HEn) (G : Gh) (nx : Nat) (a0 : Option Nat) (a1 : Option Nat) : HO (Int32) :=
  if a0 = a1 then (hB_J26_equals_22 V G nx 1)
  else (if a0 = none then (hB_J26_equals_22 V G nx 0)
  else (none))

/-! J17_init -/
def hF_J17_init (V : HEn) (G : Gh) (nx : Nat) (o : Nat) : HO (Unit) :=
  cB (hF_J0_init V G nx o) fun y101 G102 c103 => some ((), G102, 0, 0)

/-! J29_init -/
def hF_J29_init (V : HEn) (G : Gh) (nx : Nat) (o : Nat) (a0 : Option Nat) : HO (Unit) :=
  (xF V.1 G o fl_TreeMap_EntrySet_this_0 (va_rf a0)).bind fun G101 => cB (hF_J17_init V G101 nx o) fun y103 G104 c105 => some ((), G104, 0, 0)

/-! J4_entrySet -/
def hB_J4_entrySet_26 (V : HEn) (o : Nat)  (G : Gh) (nx : Nat) (s0 : Option Nat) : HO (Option Nat) :=
  some (s0, G, 0, 0)

def hF_J4_entrySet (V : HEn) (G : Gh) (nx : Nat) (o : Nat) : HO (Option Nat) :=
  (xR G o fl_TreeMap_entrySet).bind fun r101 => if r101 = none then (tick 1 1 (cB (hF_J29_init V (gset G nx (.inr (14, [.null]))) (nx + 1) nx (some o)) fun y106 G107 c108 => (xF V.1 G107 o fl_TreeMap_entrySet (va_rf (some nx))).bind fun G113 => hB_J4_entrySet_26 V o G113 ((nx + 1) + c108) (some nx)))
  else (hB_J4_entrySet_26 V o G nx r101)

/-! J4_getFirstEntry -/
def hB_J4_getFirstEntry_24 (V : HEn) (o : Nat)  (G : Gh) (nx : Nat) (l1 : Option Nat) : HO (Option Nat) :=
  some (l1, G, 0, 0)

def hL_J4_getFirstEntry_9 (V : HEn) (o : Nat)  : Nat → Gh → Nat → Option Nat → HO (Option Nat)
  | 0, _, _, _ => none
  | n + 1, G, nx, l1 =>
  (l1).bind fun a1 => (xR G a1 fl_TreeMap_Entry_left).bind fun r3 => if r3 = none then (hB_J4_getFirstEntry_24 V o G nx (some a1))
  else ((xR G a1 fl_TreeMap_Entry_left).bind fun r6 => (hL_J4_getFirstEntry_9 V o n) G nx r6)

def hF_J4_getFirstEntry (V : HEn) (G : Gh) (nx : Nat) (o : Nat) : HO (Option Nat) :=
  (xR G o fl_TreeMap_root).bind fun r108 => if r108 = none then (hB_J4_getFirstEntry_24 V o G nx r108)
  else (hL_J4_getFirstEntry_9 V o V.2.2.2.2 G nx r108)

/-! J34_init -/
def hF_J34_init (V : HEn) (G : Gh) (nx : Nat) (o : Nat) (a0 : Option Nat) (a1 : Option Nat) : HO (Unit) :=
  (xF V.1 G o fl_TreeMap_PrivateEntryIterator_this_0 (va_rf a0)).bind fun G101 => (a0).bind fun a103 => (xI G101 a103 fl_TreeMap_modCount).bind fun v105 => (xF V.1 G101 o fl_TreeMap_PrivateEntryIterator_expectedModCount (.int v105)).bind fun G107 => (xF V.1 G107 o fl_TreeMap_PrivateEntryIterator_lastReturned (va_rf none)).bind fun G109 => (xF V.1 G109 o fl_TreeMap_PrivateEntryIterator_next (va_rf a1)).bind fun G111 => some ((), G111, 0, 0)

/-! J35_init -/
def hF_J35_init (V : HEn) (G : Gh) (nx : Nat) (o : Nat) (a0 : Option Nat) (a1 : Option Nat) : HO (Unit) :=
  cB (hF_J34_init V G nx o a0 a1) fun y101 G102 c103 => some ((), G102, 0, 0)

/-! J29_iterator -/
def hF_J29_iterator (V : HEn) (G : Gh) (nx : Nat) (o : Nat) : HO (Option Nat) :=
  tick 1 4 ((xR (gset G nx (.inr (15, [.null, .null, .int 0, .null]))) o fl_TreeMap_EntrySet_this_0).bind fun r103 => (xR (gset G nx (.inr (15, [.null, .null, .int 0, .null]))) o fl_TreeMap_EntrySet_this_0).bind fun r105 => (r105).bind fun a107 => if gC (gset G nx (.inr (15, [.null, .null, .int 0, .null]))) a107 10 = true then cB (hF_J4_getFirstEntry V (gset G nx (.inr (15, [.null, .null, .int 0, .null]))) (nx + 1) a107) fun r110 G111 c112 => cB (hF_J35_init V G111 ((nx + 1) + c112) nx r103 r110) fun y117 G118 c119 => some ((some nx), G118, 0, 0) else none)

/-! J23_numberOfLeadingZeros -/
def hB_J23_numberOfLeadingZeros_14 (V : HEn)  (G : Gh) (nx : Nat) (s0 : Int32) : HO (Int32) :=
  some (s0, G, 0, 0)

def hB_J23_numberOfLeadingZeros_73 (V : HEn)  (G : Gh) (nx : Nat) (l0 : Int32) (l1 : Int32) : HO (Int32) :=
  some ((l1 - ((l0.toUInt32 >>> ((1 : Int32).toUInt32 &&& Int32.toUInt32 31)).toInt32)), G, 0, 0)

def hB_J23_numberOfLeadingZeros_61 (V : HEn)  (G : Gh) (nx : Nat) (l0 : Int32) (l1 : Int32) : HO (Int32) :=
  if l0 < 4 then (hB_J23_numberOfLeadingZeros_73 V G nx l0 l1)
  else (nmv ((l0.toUInt32 >>> ((2 : Int32).toUInt32 &&& Int32.toUInt32 31)).toInt32) fun y2 => hB_J23_numberOfLeadingZeros_73 V G nx y2 (l1 + (-2)))

def hB_J23_numberOfLeadingZeros_48 (V : HEn)  (G : Gh) (nx : Nat) (l0 : Int32) (l1 : Int32) : HO (Int32) :=
  if l0 < 16 then (hB_J23_numberOfLeadingZeros_61 V G nx l0 l1)
  else (nmv ((l0.toUInt32 >>> ((4 : Int32).toUInt32 &&& Int32.toUInt32 31)).toInt32) fun y5 => hB_J23_numberOfLeadingZeros_61 V G nx y5 (l1 + (-4)))

def hB_J23_numberOfLeadingZeros_33 (V : HEn)  (G : Gh) (nx : Nat) (l0 : Int32) (l1 : Int32) : HO (Int32) :=
  if l0 < 256 then (hB_J23_numberOfLeadingZeros_48 V G nx l0 l1)
  else (nmv ((l0.toUInt32 >>> ((8 : Int32).toUInt32 &&& Int32.toUInt32 31)).toInt32) fun y8 => hB_J23_numberOfLeadingZeros_48 V G nx y8 (l1 + (-8)))

def hF_J23_numberOfLeadingZeros (V : HEn) (G : Gh) (nx : Nat) (a0 : Int32) : HO (Int32) :=
  if 0 < a0 then (if a0 < 65536 then (hB_J23_numberOfLeadingZeros_33 V G nx a0 31)
  else (nmv ((a0.toUInt32 >>> ((16 : Int32).toUInt32 &&& Int32.toUInt32 31)).toInt32) fun y112 => hB_J23_numberOfLeadingZeros_33 V G nx y112 (31 + (-16))))
  else (if a0 = 0 then (hB_J23_numberOfLeadingZeros_14 V G nx 32)
  else (hB_J23_numberOfLeadingZeros_14 V G nx 0))

/-! J4_computeRedLevel -/
def hF_J4_computeRedLevel (V : HEn) (G : Gh) (nx : Nat) (a0 : Int32) : HO (Int32) :=
  cB (hF_J23_numberOfLeadingZeros V G nx (a0 + 1)) fun y101 G102 c103 => some ((31 - y101), G102, 0, 0)

/-! J4_successor -/
def hL_J4_successor_18 (V : HEn)  : Nat → Gh → Nat → Option Nat → HO (Option Nat)
  | 0, _, _, _ => none
  | n + 1, G, nx, l1 =>
  (l1).bind fun a1 => (xR G a1 fl_TreeMap_Entry_left).bind fun r3 => if r3 = none then (some ((some a1), G, 0, 0))
  else ((xR G a1 fl_TreeMap_Entry_left).bind fun r6 => (hL_J4_successor_18 V  n) G nx r6)

def hB_J4_successor_64 (V : HEn)  (G : Gh) (nx : Nat) (l1 : Option Nat) : HO (Option Nat) :=
  some (l1, G, 0, 0)

def hL_J4_successor_42 (V : HEn)  : Nat → Gh → Nat → Option Nat → Option Nat → HO (Option Nat)
  | 0, _, _, _, _ => none
  | n + 1, G, nx, l1, l2 =>
  if l1 = none then (hB_J4_successor_64 V G nx l1)
  else ((l1).bind fun a9 => (xR G a9 fl_TreeMap_Entry_right).bind fun r11 => if l2 = r11 then ((xR G a9 fl_TreeMap_Entry_parent).bind fun r14 => (hL_J4_successor_42 V  n) G nx r14 (some a9))
  else (hB_J4_successor_64 V G nx (some a9)))

def hF_J4_successor (V : HEn) (G : Gh) (nx : Nat) (a0 : Option Nat) : HO (Option Nat) :=
  if a0 = none then (some (none, G, 0, 0))
  else ((a0).bind fun a117 => (xR G a117 fl_TreeMap_Entry_right).bind fun r119 => if r119 = none then ((xR G a117 fl_TreeMap_Entry_parent).bind fun r122 => hL_J4_successor_42 V V.2.2.2.2 G nx r122 (some a117))
  else ((xR G a117 fl_TreeMap_Entry_right).bind fun r124 => hL_J4_successor_18 V V.2.2.2.2 G nx r124))

/-! J34_nextEntry -/
def hF_J34_nextEntry (V : HEn) (G : Gh) (nx : Nat) (o : Nat) : HO (Option Nat) :=
  (xR G o fl_TreeMap_PrivateEntryIterator_next).bind fun r101 => if r101 = none then (none)
  else ((xR G o fl_TreeMap_PrivateEntryIterator_this_0).bind fun r104 => (r104).bind fun a106 => (xI G a106 fl_TreeMap_modCount).bind fun v108 => (xI G o fl_TreeMap_PrivateEntryIterator_expectedModCount).bind fun v110 => if v108 = v110 then (cB (hF_J4_successor V G nx r101) fun r113 G114 c115 => (xF V.1 G114 o fl_TreeMap_PrivateEntryIterator_next (va_rf r113)).bind fun G120 => (xF V.1 G120 o fl_TreeMap_PrivateEntryIterator_lastReturned (va_rf r101)).bind fun G122 => some (r101, G122, 0, 0))
  else (none))

/-! J35_next_2 -/
def hF_J35_next_2 (V : HEn) (G : Gh) (nx : Nat) (o : Nat) : HO (Option Nat) :=
  if gC G o 15 = true then cB (hF_J34_nextEntry V G nx o) fun r102 G103 c104 => some (r102, G103, 0, 0) else none

/-! J35_next -/
def hF_J35_next (V : HEn) (G : Gh) (nx : Nat) (o : Nat) : HO (Option Nat) :=
  if gC G o 15 = true then cB (hF_J35_next_2 V G nx o) fun r102 G103 c104 => some (r102, G103, 0, 0) else none

/-! J38_getKey -/
def hF_J38_getKey (V : HEn) (G : Gh) (nx : Nat) (o : Nat) : HO (Option Nat) :=
  (xR G o fl_TreeMap_Entry_key).bind fun r101 => some (r101, G, 0, 0)

/-! J38_getValue -/
def hF_J38_getValue (V : HEn) (G : Gh) (nx : Nat) (o : Nat) : HO (Option Nat) :=
  (xR G o fl_TreeMap_Entry_value).bind fun r101 => some (r101, G, 0, 0)

/-! J38_init -/
def hF_J38_init (V : HEn) (G : Gh) (nx : Nat) (o : Nat) (a0 : Option Nat) (a1 : Option Nat) (a2 : Option Nat) : HO (Unit) :=
  (xF V.1 G o fl_TreeMap_Entry_color (.int 1)).bind fun G101 => (xF V.1 G101 o fl_TreeMap_Entry_key (va_rf a0)).bind fun G103 => (xF V.1 G103 o fl_TreeMap_Entry_value (va_rf a1)).bind fun G105 => (xF V.1 G105 o fl_TreeMap_Entry_parent (va_rf a2)).bind fun G107 => some ((), G107, 0, 0)

/-! J4_buildFromSorted_2 -/
def hB_J4_buildFromSorted_2_215 (V : HEn) (rec : Gh → Nat → Nat → Int32 → Int32 → Int32 → Int32 → Option Nat → Option Nat → Option Nat → HO (Option Nat)) (o : Nat)  (G : Gh) (nx : Nat) (l12 : Option Nat) : HO (Option Nat) :=
  some (l12, G, 0, 0)

def hB_J4_buildFromSorted_2_173 (V : HEn) (rec : Gh → Nat → Nat → Int32 → Int32 → Int32 → Int32 → Option Nat → Option Nat → Option Nat → HO (Option Nat)) (o : Nat)  (G : Gh) (nx : Nat) (l1 : Int32) (l3 : Int32) (l4 : Int32) (l5 : Option Nat) (l6 : Option Nat) (l7 : Option Nat) (l8 : Int32) (l12 : Option Nat) : HO (Option Nat) :=
  if l3 ≤ l8 then (hB_J4_buildFromSorted_2_215 V rec o G nx l12)
  else (if gC G o 10 = true then cB (rec G nx o (l1 + 1) (l8 + 1) l3 l4 l5 l6 l7) fun r3 G4 c5 => (l12).bind fun a10 => (xF V.1 G4 a10 fl_TreeMap_Entry_right (va_rf r3)).bind fun G12 => (r3).bind fun a14 => (xF V.1 G12 a14 fl_TreeMap_Entry_parent (va_rf (some a10))).bind fun G16 => hB_J4_buildFromSorted_2_215 V rec o G16 (nx + c5) (some a10) else none)

def hB_J4_buildFromSorted_2_154 (V : HEn) (rec : Gh → Nat → Nat → Int32 → Int32 → Int32 → Int32 → Option Nat → Option Nat → Option Nat → HO (Option Nat)) (o : Nat)  (G : Gh) (nx : Nat) (l1 : Int32) (l3 : Int32) (l4 : Int32) (l5 : Option Nat) (l6 : Option Nat) (l7 : Option Nat) (l8 : Int32) (l9 : Option Nat) (l12 : Option Nat) : HO (Option Nat) :=
  if l9 = none then (hB_J4_buildFromSorted_2_173 V rec o G nx l1 l3 l4 l5 l6 l7 l8 l12)
  else ((l12).bind fun a19 => (xF V.1 G a19 fl_TreeMap_Entry_left (va_rf l9)).bind fun G21 => (l9).bind fun a23 => (xF V.1 G21 a23 fl_TreeMap_Entry_parent (va_rf (some a19))).bind fun G25 => hB_J4_buildFromSorted_2_173 V rec o G25 nx l1 l3 l4 l5 l6 l7 l8 (some a19))

def hB_J4_buildFromSorted_2_128 (V : HEn) (rec : Gh → Nat → Nat → Int32 → Int32 → Int32 → Int32 → Option Nat → Option Nat → Option Nat → HO (Option Nat)) (o : Nat)  (G : Gh) (nx : Nat) (l1 : Int32) (l3 : Int32) (l4 : Int32) (l5 : Option Nat) (l6 : Option Nat) (l7 : Option Nat) (l8 : Int32) (l9 : Option Nat) (l10 : Option Nat) (l11 : Option Nat) : HO (Option Nat) :=
  tick 1 6 (cB (hF_J38_init V (gset G nx (.inr (11, [.null, .null, .null, .null, .null, .int 0]))) (nx + 1) nx l10 l11 none) fun y29 G30 c31 => if l1 = l4 then ((xF V.1 G30 nx fl_TreeMap_Entry_color (.int 0)).bind fun G37 => hB_J4_buildFromSorted_2_154 V rec o G37 ((nx + 1) + c31) l1 l3 l4 l5 l6 l7 l8 l9 (some nx))
  else (hB_J4_buildFromSorted_2_154 V rec o G30 ((nx + 1) + c31) l1 l3 l4 l5 l6 l7 l8 l9 (some nx)))

def hB_J4_buildFromSorted_2_45 (V : HEn) (rec : Gh → Nat → Nat → Int32 → Int32 → Int32 → Int32 → Option Nat → Option Nat → Option Nat → HO (Option Nat)) (o : Nat)  (G : Gh) (nx : Nat) (l1 : Int32) (l3 : Int32) (l4 : Int32) (l5 : Option Nat) (l6 : Option Nat) (l7 : Option Nat) (l8 : Int32) (l9 : Option Nat) : HO (Option Nat) :=
  if l5 = none then (none)
  else (if l7 = none then ((l5).bind fun a41 => if gC G a41 15 = true then cB (hF_J35_next V G nx a41) fun r44 G45 c46 => if gok G45 r44 [11] = true then (r44).bind fun a52 => if gC G45 a52 11 = true then cB (hF_J38_getKey V G45 (nx + c46) a52) fun r55 G56 c57 => if gC G56 a52 11 = true then cB (hF_J38_getValue V G56 ((nx + c46) + c57) a52) fun r63 G64 c65 => hB_J4_buildFromSorted_2_128 V rec o G64 (((nx + c46) + c57) + c65) l1 l3 l4 (some a41) l6 l7 l8 l9 r55 r63 else none else none else none else none)
  else ((l5).bind fun a70 => if gC G a70 15 = true then cB (hF_J35_next V G nx a70) fun r73 G74 c75 => hB_J4_buildFromSorted_2_128 V rec o G74 (nx + c75) l1 l3 l4 (some a70) l6 l7 l8 l9 r73 l7 else none))

def hF_J4_buildFromSorted_2 (V : HEn) : Nat → Gh → Nat → Nat → Int32 → Int32 → Int32 → Int32 → Option Nat → Option Nat → Option Nat → HO (Option Nat)
  | 0, _, _, _, _, _, _, _, _, _, _ => none
  | n + 1, G, nx, o, a0, a1, a2, a3, a4, a5, a6 =>
  if a1 ≤ a2 then (nmv (((a1 + a2).toUInt32 >>> ((1 : Int32).toUInt32 &&& Int32.toUInt32 31)).toInt32) fun y181 => if y181 ≤ a1 then (hB_J4_buildFromSorted_2_45 V (hF_J4_buildFromSorted_2 V n) o G nx a0 a2 a3 a4 a5 a6 y181 none)
  else (if gC G o 10 = true then cB ((hF_J4_buildFromSorted_2 V n) G nx o (a0 + 1) a1 (y181 - 1) a3 a4 a5 a6) fun r185 G186 c187 => hB_J4_buildFromSorted_2_45 V (hF_J4_buildFromSorted_2 V n) o G186 (nx + c187) a0 a2 a3 a4 a5 a6 y181 r185 else none))
  else (some (none, G, 0, 0))

/-! J4_buildFromSorted -/
def hF_J4_buildFromSorted (V : HEn) (G : Gh) (nx : Nat) (o : Nat) (a0 : Int32) (a1 : Option Nat) (a2 : Option Nat) (a3 : Option Nat) : HO (Unit) :=
  (xF V.1 G o fl_TreeMap_size (.int a0)).bind fun G101 => cB (hF_J4_computeRedLevel V G101 nx a0) fun y103 G104 c105 => if gC G104 o 10 = true then cB (hF_J4_buildFromSorted_2 V 8 G104 (nx + c105) o 0 0 (a0 - 1) y103 a1 a2 a3) fun r111 G112 c113 => (xF V.1 G112 o fl_TreeMap_root (va_rf r111)).bind fun G118 => some ((), G118, 0, 0) else none

/-! J34_hasNext -/
def hB_J34_hasNext_12 (V : HEn) (o : Nat)  (G : Gh) (nx : Nat) (s0 : Int32) : HO (Int32) :=
  if vp_nar .boolean s0 = s0 then some (s0, G, 0, 0) else none

def hF_J34_hasNext (V : HEn) (G : Gh) (nx : Nat) (o : Nat) : HO (Int32) :=
  (xR G o fl_TreeMap_PrivateEntryIterator_next).bind fun r102 => if r102 = none then (hB_J34_hasNext_12 V o G nx 0)
  else (hB_J34_hasNext_12 V o G nx 1)

/-! J23_compare -/
def hB_J23_compare_19 (V : HEn)  (G : Gh) (nx : Nat) (s0 : Int32) : HO (Int32) :=
  some (s0, G, 0, 0)

def hF_J23_compare (V : HEn) (G : Gh) (nx : Nat) (a0 : Int32) (a1 : Int32) : HO (Int32) :=
  if a1 ≤ a0 then (if a0 = a1 then (hB_J23_compare_19 V G nx 0)
  else (hB_J23_compare_19 V G nx 1))
  else (hB_J23_compare_19 V G nx (-1))

/-! J23_compareTo_2 -/
def hF_J23_compareTo_2 (V : HEn) (G : Gh) (nx : Nat) (o : Nat) (a0 : Option Nat) : HO (Int32) :=
  (xI G o fl_Integer_value).bind fun v101 => (a0).bind fun a103 => (xI G a103 fl_Integer_value).bind fun v105 => cB (hF_J23_compare V G nx v101 v105) fun y107 G108 c109 => some (y107, G108, 0, 0)

/-! J23_compareTo -/
def hF_J23_compareTo (V : HEn) (G : Gh) (nx : Nat) (o : Nat) (a0 : Option Nat) : HO (Int32) :=
  if gok G a0 [26] = true then if gC G o 26 = true then cB (hF_J23_compareTo_2 V G nx o a0) fun y103 G104 c105 => some (y103, G104, 0, 0) else none else none

/-! J4_compare -/
def hF_J4_compare (V : HEn) (G : Gh) (nx : Nat) (o : Nat) (a0 : Option Nat) (a1 : Option Nat) : HO (Int32) :=
  (xR G o fl_TreeMap_comparator).bind fun r101 => if r101 = none then (if gok G a0 [26, 25] = true then (a0).bind fun a105 => if gC G a105 26 = true then cB (hF_J23_compareTo V G nx a105 a1) fun y108 G109 c110 => some (y108, G109, 0, 0) else none else none)
  else (none)

/-! J4_addEntryToEmptyMap -/
def hF_J4_addEntryToEmptyMap (V : HEn) (G : Gh) (nx : Nat) (o : Nat) (a0 : Option Nat) (a1 : Option Nat) : HO (Unit) :=
  if gC G o 10 = true then cB (hF_J4_compare V G nx o a0 a0) fun y102 G103 c104 => tick 1 6 (cB (hF_J38_init V (gset G103 (nx + c104) (.inr (11, [.null, .null, .null, .null, .null, .int 0]))) ((nx + c104) + 1) (nx + c104) a0 a1 none) fun y111 G112 c113 => (xF V.1 G112 o fl_TreeMap_root (va_rf (some (nx + c104)))).bind fun G118 => (xF V.1 G118 o fl_TreeMap_size (.int 1)).bind fun G120 => (xI G120 o fl_TreeMap_modCount).bind fun v122 => (xF V.1 G120 o fl_TreeMap_modCount (.int (v122 + 1))).bind fun G124 => some ((), G124, 0, 0)) else none

/-! J26_requireNonNull -/
def hF_J26_requireNonNull (V : HEn) (G : Gh) (nx : Nat) (a0 : Option Nat) : HO (Option Nat) :=
  if a0 = none then (none)
  else (some (a0, G, 0, 0))

/-! J4_parentOf -/
def hB_J4_parentOf_12 (V : HEn)  (G : Gh) (nx : Nat) (s0 : Option Nat) : HO (Option Nat) :=
  some (s0, G, 0, 0)

def hF_J4_parentOf (V : HEn) (G : Gh) (nx : Nat) (a0 : Option Nat) : HO (Option Nat) :=
  if a0 = none then (hB_J4_parentOf_12 V G nx none)
  else ((a0).bind fun a102 => (xR G a102 fl_TreeMap_Entry_parent).bind fun r104 => hB_J4_parentOf_12 V G nx r104)

/-! J4_leftOf -/
def hB_J4_leftOf_12 (V : HEn)  (G : Gh) (nx : Nat) (s0 : Option Nat) : HO (Option Nat) :=
  some (s0, G, 0, 0)

def hF_J4_leftOf (V : HEn) (G : Gh) (nx : Nat) (a0 : Option Nat) : HO (Option Nat) :=
  if a0 = none then (hB_J4_leftOf_12 V G nx none)
  else ((a0).bind fun a102 => (xR G a102 fl_TreeMap_Entry_left).bind fun r104 => hB_J4_leftOf_12 V G nx r104)

/-! J4_rightOf -/
def hB_J4_rightOf_12 (V : HEn)  (G : Gh) (nx : Nat) (s0 : Option Nat) : HO (Option Nat) :=
  some (s0, G, 0, 0)

def hF_J4_rightOf (V : HEn) (G : Gh) (nx : Nat) (a0 : Option Nat) : HO (Option Nat) :=
  if a0 = none then (hB_J4_rightOf_12 V G nx none)
  else ((a0).bind fun a102 => (xR G a102 fl_TreeMap_Entry_right).bind fun r104 => hB_J4_rightOf_12 V G nx r104)

/-! J4_colorOf -/
def hB_J4_colorOf_12 (V : HEn)  (G : Gh) (nx : Nat) (s0 : Int32) : HO (Int32) :=
  if vp_nar .boolean s0 = s0 then some (s0, G, 0, 0) else none

def hF_J4_colorOf (V : HEn) (G : Gh) (nx : Nat) (a0 : Option Nat) : HO (Int32) :=
  if a0 = none then (hB_J4_colorOf_12 V G nx 1)
  else ((a0).bind fun a103 => (xI G a103 fl_TreeMap_Entry_color).bind fun v105 => hB_J4_colorOf_12 V G nx v105)

/-! J4_setColor -/
def hB_J4_setColor_9 (V : HEn)  (G : Gh) (nx : Nat)  : HO (Unit) :=
  some ((), G, 0, 0)

def hF_J4_setColor (V : HEn) (G : Gh) (nx : Nat) (a0 : Option Nat) (a1 : Int32) : HO (Unit) :=
  if a0 = none then (hB_J4_setColor_9 V G nx)
  else ((a0).bind fun a102 => if a1 = 0 ∨ a1 = 1 then (xF V.1 G a102 fl_TreeMap_Entry_color (.int a1)).bind fun G105 => hB_J4_setColor_9 V G105 nx else none)

/-! J4_rotateLeft -/
def hB_J4_rotateLeft_95 (V : HEn) (o : Nat)  (G : Gh) (nx : Nat)  : HO (Unit) :=
  some ((), G, 0, 0)

def hB_J4_rotateLeft_85 (V : HEn) (o : Nat)  (G : Gh) (nx : Nat) (l1 : Option Nat) (l2 : Option Nat) : HO (Unit) :=
  (l2).bind fun a1 => (xF V.1 G a1 fl_TreeMap_Entry_left (va_rf l1)).bind fun G3 => (l1).bind fun a5 => (xF V.1 G3 a5 fl_TreeMap_Entry_parent (va_rf (some a1))).bind fun G7 => hB_J4_rotateLeft_95 V o G7 nx

def hB_J4_rotateLeft_32 (V : HEn) (o : Nat)  (G : Gh) (nx : Nat) (l1 : Option Nat) (l2 : Option Nat) : HO (Unit) :=
  (l1).bind fun a9 => (xR G a9 fl_TreeMap_Entry_parent).bind fun r11 => (l2).bind fun a13 => (xF V.1 G a13 fl_TreeMap_Entry_parent (va_rf r11)).bind fun G15 => (xR G15 a9 fl_TreeMap_Entry_parent).bind fun r17 => if r17 = none then ((xF V.1 G15 o fl_TreeMap_root (va_rf (some a13))).bind fun G20 => hB_J4_rotateLeft_85 V o G20 nx (some a9) (some a13))
  else ((xR G15 a9 fl_TreeMap_Entry_parent).bind fun r22 => (r22).bind fun a24 => (xR G15 a24 fl_TreeMap_Entry_left).bind fun r26 => if r26 = (some a9) then ((xR G15 a9 fl_TreeMap_Entry_parent).bind fun r29 => (r29).bind fun a31 => (xF V.1 G15 a31 fl_TreeMap_Entry_left (va_rf (some a13))).bind fun G33 => hB_J4_rotateLeft_85 V o G33 nx (some a9) (some a13))
  else ((xR G15 a9 fl_TreeMap_Entry_parent).bind fun r35 => (r35).bind fun a37 => (xF V.1 G15 a37 fl_TreeMap_Entry_right (va_rf (some a13))).bind fun G39 => hB_J4_rotateLeft_85 V o G39 nx (some a9) (some a13)))

def hF_J4_rotateLeft (V : HEn) (G : Gh) (nx : Nat) (o : Nat) (a0 : Option Nat) : HO (Unit) :=
  if a0 = none then (hB_J4_rotateLeft_95 V o G nx)
  else ((a0).bind fun a142 => (xR G a142 fl_TreeMap_Entry_right).bind fun r144 => (r144).bind fun a146 => (xR G a146 fl_TreeMap_Entry_left).bind fun r148 => (xF V.1 G a142 fl_TreeMap_Entry_right (va_rf r148)).bind fun G150 => (xR G150 a146 fl_TreeMap_Entry_left).bind fun r152 => if r152 = none then (hB_J4_rotateLeft_32 V o G150 nx (some a142) (some a146))
  else ((xR G150 a146 fl_TreeMap_Entry_left).bind fun r155 => (r155).bind fun a157 => (xF V.1 G150 a157 fl_TreeMap_Entry_parent (va_rf (some a142))).bind fun G159 => hB_J4_rotateLeft_32 V o G159 nx (some a142) (some a146)))

/-! J4_rotateRight -/
def hB_J4_rotateRight_95 (V : HEn) (o : Nat)  (G : Gh) (nx : Nat)  : HO (Unit) :=
  some ((), G, 0, 0)

def hB_J4_rotateRight_85 (V : HEn) (o : Nat)  (G : Gh) (nx : Nat) (l1 : Option Nat) (l2 : Option Nat) : HO (Unit) :=
  (l2).bind fun a1 => (xF V.1 G a1 fl_TreeMap_Entry_right (va_rf l1)).bind fun G3 => (l1).bind fun a5 => (xF V.1 G3 a5 fl_TreeMap_Entry_parent (va_rf (some a1))).bind fun G7 => hB_J4_rotateRight_95 V o G7 nx

def hB_J4_rotateRight_32 (V : HEn) (o : Nat)  (G : Gh) (nx : Nat) (l1 : Option Nat) (l2 : Option Nat) : HO (Unit) :=
  (l1).bind fun a9 => (xR G a9 fl_TreeMap_Entry_parent).bind fun r11 => (l2).bind fun a13 => (xF V.1 G a13 fl_TreeMap_Entry_parent (va_rf r11)).bind fun G15 => (xR G15 a9 fl_TreeMap_Entry_parent).bind fun r17 => if r17 = none then ((xF V.1 G15 o fl_TreeMap_root (va_rf (some a13))).bind fun G20 => hB_J4_rotateRight_85 V o G20 nx (some a9) (some a13))
  else ((xR G15 a9 fl_TreeMap_Entry_parent).bind fun r22 => (r22).bind fun a24 => (xR G15 a24 fl_TreeMap_Entry_right).bind fun r26 => if r26 = (some a9) then ((xR G15 a9 fl_TreeMap_Entry_parent).bind fun r29 => (r29).bind fun a31 => (xF V.1 G15 a31 fl_TreeMap_Entry_right (va_rf (some a13))).bind fun G33 => hB_J4_rotateRight_85 V o G33 nx (some a9) (some a13))
  else ((xR G15 a9 fl_TreeMap_Entry_parent).bind fun r35 => (r35).bind fun a37 => (xF V.1 G15 a37 fl_TreeMap_Entry_left (va_rf (some a13))).bind fun G39 => hB_J4_rotateRight_85 V o G39 nx (some a9) (some a13)))

def hF_J4_rotateRight (V : HEn) (G : Gh) (nx : Nat) (o : Nat) (a0 : Option Nat) : HO (Unit) :=
  if a0 = none then (hB_J4_rotateRight_95 V o G nx)
  else ((a0).bind fun a142 => (xR G a142 fl_TreeMap_Entry_left).bind fun r144 => (r144).bind fun a146 => (xR G a146 fl_TreeMap_Entry_right).bind fun r148 => (xF V.1 G a142 fl_TreeMap_Entry_left (va_rf r148)).bind fun G150 => (xR G150 a146 fl_TreeMap_Entry_right).bind fun r152 => if r152 = none then (hB_J4_rotateRight_32 V o G150 nx (some a142) (some a146))
  else ((xR G150 a146 fl_TreeMap_Entry_right).bind fun r155 => (r155).bind fun a157 => (xF V.1 G150 a157 fl_TreeMap_Entry_parent (va_rf (some a142))).bind fun G159 => hB_J4_rotateRight_32 V o G159 nx (some a142) (some a146)))

/-! J4_fixAfterInsertion -/
def hB_J4_fixAfterInsertion_258 (V : HEn) (o : Nat)  (G : Gh) (nx : Nat)  : HO (Unit) :=
  (xR G o fl_TreeMap_root).bind fun r1 => (r1).bind fun a3 => (xF V.1 G a3 fl_TreeMap_Entry_color (.int 1)).bind fun G5 => some ((), G5, 0, 0)

def hB_J4_fixAfterInsertion_255 (V : HEn) (o : Nat) (k5 : Gh → Nat → Option Nat → HO (Unit)) (G : Gh) (nx : Nat) (l1 : Option Nat) : HO (Unit) :=
  k5 G nx l1

def hB_J4_fixAfterInsertion_252 (V : HEn) (o : Nat) (k5 : Gh → Nat → Option Nat → HO (Unit)) (G : Gh) (nx : Nat) (s0 : Option Nat) (s1 : Option Nat) (l1 : Option Nat) : HO (Unit) :=
  (s0).bind fun a7 => if gC G a7 10 = true then cB (hF_J4_rotateLeft V G nx a7 s1) fun y10 G11 c12 => hB_J4_fixAfterInsertion_255 V o k5 G11 (nx + c12) l1 else none

def hB_J4_fixAfterInsertion_225 (V : HEn) (o : Nat) (k5 : Gh → Nat → Option Nat → HO (Unit)) (G : Gh) (nx : Nat) (l1 : Option Nat) : HO (Unit) :=
  cB (hF_J4_parentOf V G nx l1) fun r17 G18 c19 => cB (hF_J4_setColor V G18 (nx + c19) r17 1) fun y24 G25 c26 => cB (hF_J4_parentOf V G25 ((nx + c19) + c26) l1) fun r31 G32 c33 => cB (hF_J4_parentOf V G32 (((nx + c19) + c26) + c33) r31) fun r38 G39 c40 => cB (hF_J4_setColor V G39 ((((nx + c19) + c26) + c33) + c40) r38 0) fun y45 G46 c47 => cB (hF_J4_parentOf V G46 (((((nx + c19) + c26) + c33) + c40) + c47) l1) fun r52 G53 c54 => cB (hF_J4_parentOf V G53 ((((((nx + c19) + c26) + c33) + c40) + c47) + c54) r52) fun r59 G60 c61 => hB_J4_fixAfterInsertion_252 V o k5 G60 (((((((nx + c19) + c26) + c33) + c40) + c47) + c54) + c61) (some o) r59 l1

def hB_J4_fixAfterInsertion_193 (V : HEn) (o : Nat) (k5 : Gh → Nat → Option Nat → HO (Unit)) (G : Gh) (nx : Nat) (l1 : Option Nat) : HO (Unit) :=
  cB (hF_J4_parentOf V G nx l1) fun r66 G67 c68 => cB (hF_J4_parentOf V G67 (nx + c68) r66) fun r73 G74 c75 => hB_J4_fixAfterInsertion_255 V o k5 G74 ((nx + c68) + c75) r73

def hB_J4_fixAfterInsertion_161 (V : HEn) (o : Nat) (k5 : Gh → Nat → Option Nat → HO (Unit)) (G : Gh) (nx : Nat) (s0 : Option Nat) (l1 : Option Nat) : HO (Unit) :=
  cB (hF_J4_colorOf V G nx s0) fun y80 G81 c82 => if y80 = 0 then (cB (hF_J4_parentOf V G81 (nx + c82) l1) fun r88 G89 c90 => cB (hF_J4_setColor V G89 ((nx + c82) + c90) r88 1) fun y95 G96 c97 => cB (hF_J4_setColor V G96 (((nx + c82) + c90) + c97) s0 1) fun y102 G103 c104 => cB (hF_J4_parentOf V G103 ((((nx + c82) + c90) + c97) + c104) l1) fun r109 G110 c111 => cB (hF_J4_parentOf V G110 (((((nx + c82) + c90) + c97) + c104) + c111) r109) fun r116 G117 c118 => cB (hF_J4_setColor V G117 ((((((nx + c82) + c90) + c97) + c104) + c111) + c118) r116 0) fun y123 G124 c125 => hB_J4_fixAfterInsertion_193 V o k5 G124 (((((((nx + c82) + c90) + c97) + c104) + c111) + c118) + c125) l1)
  else (cB (hF_J4_parentOf V G81 (nx + c82) l1) fun r130 G131 c132 => cB (hF_J4_leftOf V G131 ((nx + c82) + c132) r130) fun r137 G138 c139 => if l1 = r137 then (cB (hF_J4_parentOf V G138 (((nx + c82) + c132) + c139) l1) fun r145 G146 c147 => if gC G146 o 10 = true then cB (hF_J4_rotateRight V G146 ((((nx + c82) + c132) + c139) + c147) o r145) fun y153 G154 c155 => hB_J4_fixAfterInsertion_225 V o k5 G154 (((((nx + c82) + c132) + c139) + c147) + c155) r145 else none)
  else (hB_J4_fixAfterInsertion_225 V o k5 G138 (((nx + c82) + c132) + c139) l1))

def hB_J4_fixAfterInsertion_148 (V : HEn) (o : Nat) (k5 : Gh → Nat → Option Nat → HO (Unit)) (G : Gh) (nx : Nat) (l1 : Option Nat) : HO (Unit) :=
  k5 G nx l1

def hB_J4_fixAfterInsertion_145 (V : HEn) (o : Nat) (k5 : Gh → Nat → Option Nat → HO (Unit)) (G : Gh) (nx : Nat) (s0 : Option Nat) (s1 : Option Nat) (l1 : Option Nat) : HO (Unit) :=
  (s0).bind fun a160 => if gC G a160 10 = true then cB (hF_J4_rotateRight V G nx a160 s1) fun y163 G164 c165 => hB_J4_fixAfterInsertion_148 V o k5 G164 (nx + c165) l1 else none

def hB_J4_fixAfterInsertion_118 (V : HEn) (o : Nat) (k5 : Gh → Nat → Option Nat → HO (Unit)) (G : Gh) (nx : Nat) (l1 : Option Nat) : HO (Unit) :=
  cB (hF_J4_parentOf V G nx l1) fun r170 G171 c172 => cB (hF_J4_setColor V G171 (nx + c172) r170 1) fun y177 G178 c179 => cB (hF_J4_parentOf V G178 ((nx + c172) + c179) l1) fun r184 G185 c186 => cB (hF_J4_parentOf V G185 (((nx + c172) + c179) + c186) r184) fun r191 G192 c193 => cB (hF_J4_setColor V G192 ((((nx + c172) + c179) + c186) + c193) r191 0) fun y198 G199 c200 => cB (hF_J4_parentOf V G199 (((((nx + c172) + c179) + c186) + c193) + c200) l1) fun r205 G206 c207 => cB (hF_J4_parentOf V G206 ((((((nx + c172) + c179) + c186) + c193) + c200) + c207) r205) fun r212 G213 c214 => hB_J4_fixAfterInsertion_145 V o k5 G213 (((((((nx + c172) + c179) + c186) + c193) + c200) + c207) + c214) (some o) r212 l1

def hB_J4_fixAfterInsertion_86 (V : HEn) (o : Nat) (k5 : Gh → Nat → Option Nat → HO (Unit)) (G : Gh) (nx : Nat) (l1 : Option Nat) : HO (Unit) :=
  cB (hF_J4_parentOf V G nx l1) fun r219 G220 c221 => cB (hF_J4_parentOf V G220 (nx + c221) r219) fun r226 G227 c228 => hB_J4_fixAfterInsertion_148 V o k5 G227 ((nx + c221) + c228) r226

def hB_J4_fixAfterInsertion_54 (V : HEn) (o : Nat) (k5 : Gh → Nat → Option Nat → HO (Unit)) (G : Gh) (nx : Nat) (s0 : Option Nat) (l1 : Option Nat) : HO (Unit) :=
  cB (hF_J4_colorOf V G nx s0) fun y233 G234 c235 => if y233 = 0 then (cB (hF_J4_parentOf V G234 (nx + c235) l1) fun r241 G242 c243 => cB (hF_J4_setColor V G242 ((nx + c235) + c243) r241 1) fun y248 G249 c250 => cB (hF_J4_setColor V G249 (((nx + c235) + c243) + c250) s0 1) fun y255 G256 c257 => cB (hF_J4_parentOf V G256 ((((nx + c235) + c243) + c250) + c257) l1) fun r262 G263 c264 => cB (hF_J4_parentOf V G263 (((((nx + c235) + c243) + c250) + c257) + c264) r262) fun r269 G270 c271 => cB (hF_J4_setColor V G270 ((((((nx + c235) + c243) + c250) + c257) + c264) + c271) r269 0) fun y276 G277 c278 => hB_J4_fixAfterInsertion_86 V o k5 G277 (((((((nx + c235) + c243) + c250) + c257) + c264) + c271) + c278) l1)
  else (cB (hF_J4_parentOf V G234 (nx + c235) l1) fun r283 G284 c285 => cB (hF_J4_rightOf V G284 ((nx + c235) + c285) r283) fun r290 G291 c292 => if l1 = r290 then (cB (hF_J4_parentOf V G291 (((nx + c235) + c285) + c292) l1) fun r298 G299 c300 => if gC G299 o 10 = true then cB (hF_J4_rotateLeft V G299 ((((nx + c235) + c285) + c292) + c300) o r298) fun y306 G307 c308 => hB_J4_fixAfterInsertion_118 V o k5 G307 (((((nx + c235) + c285) + c292) + c300) + c308) r298 else none)
  else (hB_J4_fixAfterInsertion_118 V o k5 G291 (((nx + c235) + c285) + c292) l1))

def hL_J4_fixAfterInsertion_5 (V : HEn) (o : Nat)  : Nat → Gh → Nat → Option Nat → HO (Unit)
  | 0, _, _, _ => none
  | n + 1, G, nx, l1 =>
  if l1 = none then (hB_J4_fixAfterInsertion_258 V o G nx)
  else ((xR G o fl_TreeMap_root).bind fun r314 => if l1 = r314 then (hB_J4_fixAfterInsertion_258 V o G nx)
  else ((l1).bind fun a317 => (xR G a317 fl_TreeMap_Entry_parent).bind fun r319 => (r319).bind fun a321 => (xI G a321 fl_TreeMap_Entry_color).bind fun v323 => if v323 = 0 then (cB (hF_J4_parentOf V G nx (some a317)) fun r326 G327 c328 => cB (hF_J4_parentOf V G327 (nx + c328) (some a317)) fun r333 G334 c335 => cB (hF_J4_parentOf V G334 ((nx + c328) + c335) r333) fun r340 G341 c342 => cB (hF_J4_leftOf V G341 (((nx + c328) + c335) + c342) r340) fun r347 G348 c349 => if r326 = r347 then (cB (hF_J4_parentOf V G348 ((((nx + c328) + c335) + c342) + c349) (some a317)) fun r355 G356 c357 => cB (hF_J4_parentOf V G356 (((((nx + c328) + c335) + c342) + c349) + c357) r355) fun r362 G363 c364 => cB (hF_J4_rightOf V G363 ((((((nx + c328) + c335) + c342) + c349) + c357) + c364) r362) fun r369 G370 c371 => hB_J4_fixAfterInsertion_54 V o (hL_J4_fixAfterInsertion_5 V o n) G370 (((((((nx + c328) + c335) + c342) + c349) + c357) + c364) + c371) r369 (some a317))
  else (cB (hF_J4_parentOf V G348 ((((nx + c328) + c335) + c342) + c349) (some a317)) fun r376 G377 c378 => cB (hF_J4_parentOf V G377 (((((nx + c328) + c335) + c342) + c349) + c378) r376) fun r383 G384 c385 => cB (hF_J4_leftOf V G384 ((((((nx + c328) + c335) + c342) + c349) + c378) + c385) r383) fun r390 G391 c392 => hB_J4_fixAfterInsertion_161 V o (hL_J4_fixAfterInsertion_5 V o n) G391 (((((((nx + c328) + c335) + c342) + c349) + c378) + c385) + c392) r390 (some a317)))
  else (hB_J4_fixAfterInsertion_258 V o G nx)))

def hF_J4_fixAfterInsertion (V : HEn) (G : Gh) (nx : Nat) (o : Nat) (a0 : Option Nat) : HO (Unit) :=
  (a0).bind fun a497 => (xF V.1 G a497 fl_TreeMap_Entry_color (.int 0)).bind fun G499 => hL_J4_fixAfterInsertion_5 V o V.2.2.2.2 G499 nx (some a497)

/-! J4_addEntry -/
def hB_J4_addEntry_32 (V : HEn) (o : Nat)  (G : Gh) (nx : Nat) (l5 : Option Nat) : HO (Unit) :=
  if gC G o 10 = true then cB (hF_J4_fixAfterInsertion V G nx o l5) fun y2 G3 c4 => (xI G3 o fl_TreeMap_size).bind fun v9 => (xF V.1 G3 o fl_TreeMap_size (.int (v9 + 1))).bind fun G11 => (xI G11 o fl_TreeMap_modCount).bind fun v13 => (xF V.1 G11 o fl_TreeMap_modCount (.int (v13 + 1))).bind fun G15 => some ((), G15, 0, 0) else none

def hF_J4_addEntry (V : HEn) (G : Gh) (nx : Nat) (o : Nat) (a0 : Option Nat) (a1 : Option Nat) (a2 : Option Nat) (a3 : Int32) : HO (Unit) :=
  tick 1 6 (cB (hF_J38_init V (gset G nx (.inr (11, [.null, .null, .null, .null, .null, .int 0]))) (nx + 1) nx a0 a1 a2) fun y119 G120 c121 => if a3 = 0 then ((a2).bind fun a127 => (xF V.1 G120 a127 fl_TreeMap_Entry_right (va_rf (some nx))).bind fun G129 => hB_J4_addEntry_32 V o G129 ((nx + 1) + c121) (some nx))
  else ((a2).bind fun a131 => (xF V.1 G120 a131 fl_TreeMap_Entry_left (va_rf (some nx))).bind fun G133 => hB_J4_addEntry_32 V o G133 ((nx + 1) + c121) (some nx)))

/-! J4_put_2 -/
def hB_J4_put_2_193 (V : HEn) (o : Nat)  (G : Gh) (nx : Nat) (l9 : Option Nat) : HO (Option Nat) :=
  some (l9, G, 0, 0)

def hB_J4_put_2_187 (V : HEn) (o : Nat)  (G : Gh) (nx : Nat) (l2 : Option Nat) (l4 : Option Nat) (l9 : Option Nat) : HO (Option Nat) :=
  (l4).bind fun a1 => (xF V.1 G a1 fl_TreeMap_Entry_value (va_rf l2)).bind fun G3 => hB_J4_put_2_193 V o G3 nx l9

def hB_J4_put_2_216 (V : HEn) (o : Nat)  (G : Gh) (nx : Nat) (s0 : Option Nat) (s1 : Option Nat) (s2 : Option Nat) (s3 : Option Nat) (s4 : Int32) : HO (Option Nat) :=
  (s0).bind fun a5 => if gC G a5 10 = true then cB (hF_J4_addEntry V G nx a5 s1 s2 s3 s4) fun y8 G9 c10 => some (none, G9, 0, 0) else none

def hB_J4_put_2_196 (V : HEn) (o : Nat) (k123 : Gh → Nat → Option Nat → Option Nat → Int32 → Option Nat → Option Nat → HO (Option Nat)) (G : Gh) (nx : Nat) (l1 : Option Nat) (l2 : Option Nat) (l3 : Int32) (l4 : Option Nat) (l5 : Int32) (l6 : Option Nat) (l8 : Option Nat) : HO (Option Nat) :=
  if l4 = none then (if 0 ≤ l5 then (hB_J4_put_2_216 V o G nx (some o) l1 l2 l6 0)
  else (hB_J4_put_2_216 V o G nx (some o) l1 l2 l6 1))
  else (k123 G nx l1 l2 l3 l4 l8)

def hL_J4_put_2_123 (V : HEn) (o : Nat)  : Nat → Gh → Nat → Option Nat → Option Nat → Int32 → Option Nat → Option Nat → HO (Option Nat)
  | 0, _, _, _, _, _, _, _ => none
  | n + 1, G, nx, l1, l2, l3, l4, l8 =>
  (l4).bind fun a17 => (xR G a17 fl_TreeMap_Entry_key).bind fun r19 => (l8).bind fun a21 => if gC G a21 26 = true then cB (hF_J23_compareTo V G nx a21 r19) fun y24 G25 c26 => if 0 ≤ y24 then (if y24 ≤ 0 then ((xR G25 a17 fl_TreeMap_Entry_value).bind fun r33 => if l3 = 0 then (if r33 = none then (hB_J4_put_2_187 V o G25 (nx + c26) l2 (some a17) r33)
  else (hB_J4_put_2_193 V o G25 (nx + c26) r33))
  else (hB_J4_put_2_187 V o G25 (nx + c26) l2 (some a17) r33))
  else ((xR G25 a17 fl_TreeMap_Entry_right).bind fun r37 => hB_J4_put_2_196 V o (hL_J4_put_2_123 V o n) G25 (nx + c26) l1 l2 l3 r37 y24 (some a17) (some a21)))
  else ((xR G25 a17 fl_TreeMap_Entry_left).bind fun r39 => hB_J4_put_2_196 V o (hL_J4_put_2_123 V o n) G25 (nx + c26) l1 l2 l3 r39 y24 (some a17) (some a21)) else none

def hF_J4_put_2 (V : HEn) (G : Gh) (nx : Nat) (o : Nat) (a0 : Option Nat) (a1 : Option Nat) (a2 : Int32) : HO (Option Nat) :=
  (xR G o fl_TreeMap_root).bind fun r141 => if r141 = none then (if gC G o 10 = true then cB (hF_J4_addEntryToEmptyMap V G nx o a0 a1) fun y145 G146 c147 => some (none, G146, 0, 0) else none)
  else ((xR G o fl_TreeMap_comparator).bind fun r152 => if r152 = none then (cB (hF_J26_requireNonNull V G nx a0) fun r155 G156 c157 => if gok G156 a0 [26, 25] = true then hL_J4_put_2_123 V o V.2.2.2.2 G156 (nx + c157) a0 a1 a2 r141 a0 else none)
  else (none))

/-! J4_put -/
def hF_J4_put (V : HEn) (G : Gh) (nx : Nat) (o : Nat) (a0 : Option Nat) (a1 : Option Nat) : HO (Option Nat) :=
  if gC G o 10 = true then cB (hF_J4_put_2 V G nx o a0 a1 1) fun r102 G103 c104 => some (r102, G103, 0, 0) else none

/-! J3_putAll -/
def hL_J3_putAll_12 (V : HEn) (o : Nat)  : Nat → Gh → Nat → Option Nat → HO (Unit)
  | 0, _, _, _ => none
  | n + 1, G, nx, l2 =>
  (l2).bind fun a1 => if gC G a1 15 = true then cB (hF_J34_hasNext V G nx a1) fun y4 G5 c6 => if y4 = 0 then (some ((), G5, 0, 0))
  else (if gC G5 a1 15 = true then cB (hF_J35_next V G5 (nx + c6) a1) fun r13 G14 c15 => if gok G14 r13 [11] = true then (r13).bind fun a21 => if gC G14 a21 11 = true then cB (hF_J38_getKey V G14 ((nx + c6) + c15) a21) fun r24 G25 c26 => if gC G25 a21 11 = true then cB (hF_J38_getValue V G25 (((nx + c6) + c15) + c26) a21) fun r32 G33 c34 => if gC G33 o 10 = true then cB (hF_J4_put V G33 ((((nx + c6) + c15) + c26) + c34) o r24 r32) fun r40 G41 c42 => (hL_J3_putAll_12 V o n) G41 (((((nx + c6) + c15) + c26) + c34) + c42) (some a1) else none else none else none else none else none) else none

def hF_J3_putAll (V : HEn) (G : Gh) (nx : Nat) (o : Nat) (a0 : Option Nat) : HO (Unit) :=
  (a0).bind fun a147 => if gC G a147 10 = true then cB (hF_J4_entrySet V G nx a147) fun r150 G151 c152 => (r150).bind fun a157 => if gC G151 a157 14 = true then cB (hF_J29_iterator V G151 (nx + c152) a157) fun r160 G161 c162 => hL_J3_putAll_12 V o V.2.2.2.2 G161 ((nx + c152) + c162) r160 else none else none

/-! J4_putAll -/
def hB_J4_putAll_77 (V : HEn) (o : Nat)  (G : Gh) (nx : Nat) (l1 : Option Nat) : HO (Unit) :=
  if gC G o 10 = true then cB (hF_J3_putAll V G nx o l1) fun y2 G3 c4 => some ((), G3, 0, 0) else none

def hF_J4_putAll (V : HEn) (G : Gh) (nx : Nat) (o : Nat) (a0 : Option Nat) : HO (Unit) :=
  (a0).bind fun a109 => if gC G a109 10 = true then cB (hF_J4_size V G nx a109) fun y112 G113 c114 => (xI G113 o fl_TreeMap_size).bind fun v119 => if v119 = 0 then (if y112 = 0 then (hB_J4_putAll_77 V o G113 (nx + c114) (some a109))
  else ((gin G113 (some a109) [10] []).bind fun v123 => if v123 = 0 then (hB_J4_putAll_77 V o G113 (nx + c114) (some a109))
  else ((xR G113 o fl_TreeMap_comparator).bind fun r126 => if gok G113 (some a109) [10] = true then if gC G113 a109 10 = true then cB (hF_J4_comparator V G113 (nx + c114) a109) fun r130 G131 c132 => cB (hF_J26_equals V G131 ((nx + c114) + c132) r126 r130) fun y137 G138 c139 => if y137 = 0 then (hB_J4_putAll_77 V o G138 (((nx + c114) + c132) + c139) (some a109))
  else ((xI G138 o fl_TreeMap_modCount).bind fun v145 => (xF V.1 G138 o fl_TreeMap_modCount (.int (v145 + 1))).bind fun G147 => if gC G147 a109 10 = true then cB (hF_J4_entrySet V G147 (((nx + c114) + c132) + c139) a109) fun r150 G151 c152 => (r150).bind fun a157 => if gC G151 a157 14 = true then cB (hF_J29_iterator V G151 ((((nx + c114) + c132) + c139) + c152) a157) fun r160 G161 c162 => if gC G161 o 10 = true then cB (hF_J4_buildFromSorted V G161 (((((nx + c114) + c132) + c139) + c152) + c162) o y112 r160 none none) fun y168 G169 c170 => some ((), G169, 0, 0) else none else none else none) else none else none)))
  else (hB_J4_putAll_77 V o G113 (nx + c114) (some a109)) else none

/-! X1_copy -/
def hF_X1_copy (V : HEn) (G : Gh) (nx : Nat) (o : Nat) : HO (Option Nat) :=
  tick 1 2 (cB (hF_X1_init V (gset G nx (.inr (1, [.null, .null]))) (nx + 1) nx) fun y103 G104 c105 => (xR G104 o fl_RunWatch_Desk_plan).bind fun r110 => (xF V.1 G104 nx fl_RunWatch_Desk_plan (va_rf r110)).bind fun G112 => (xR G112 nx fl_RunWatch_Desk_rows).bind fun r114 => (xR G112 o fl_RunWatch_Desk_rows).bind fun r116 => (r114).bind fun a118 => if gC G112 a118 10 = true then cB (hF_J4_putAll V G112 ((nx + 1) + c105) a118 r116) fun y121 G122 c123 => some ((some nx), G122, 0, 0) else none)

/-! J2_clear -/
def hL_J2_clear_27 (V : HEn) (o : Nat)  : Nat → Gh → Nat → Option Nat → Int32 → Int32 → HO (Unit)
  | 0, _, _, _, _, _ => none
  | n + 1, G, nx, l1, l2, l3 =>
  if l2 ≤ l3 then (some ((), G, 0, 0))
  else ((l1).bind fun a2 => if gokA G V.2.1 none [6, 26, 5, 100] = true then (wrR V.1 G (V.2.1 3) a2 l3 none).bind fun G4 => (hL_J2_clear_27 V o n) G4 nx (some a2) l2 (l3 + 1) else none)

def hF_J2_clear (V : HEn) (G : Gh) (nx : Nat) (o : Nat) : HO (Unit) :=
  (xI G o fl_AbstractList_modCount).bind fun v107 => (xF V.1 G o fl_AbstractList_modCount (.int (v107 + 1))).bind fun G109 => (xR G109 o fl_ArrayList_elementData).bind fun r111 => (xI G109 o fl_ArrayList_size).bind fun v113 => (xF V.1 G109 o fl_ArrayList_size (.int 0)).bind fun G115 => hL_J2_clear_27 V o V.2.2.2.2 G115 nx r111 v113 0

/-! J43_init -/
def hF_J43_init (V : HEn) (G : Gh) (nx : Nat) (o : Nat) (a0 : Option Nat) : HO (Unit) :=
  cB (hF_J17_init V G nx o) fun y101 G102 c103 => (xF V.1 G102 o fl_TreeMap_KeySet_m (va_rf a0)).bind fun G108 => some ((), G108, 0, 0)

/-! J4_navigableKeySet -/
def hB_J4_navigableKeySet_26 (V : HEn) (o : Nat)  (G : Gh) (nx : Nat) (s0 : Option Nat) : HO (Option Nat) :=
  some (s0, G, 0, 0)

def hF_J4_navigableKeySet (V : HEn) (G : Gh) (nx : Nat) (o : Nat) : HO (Option Nat) :=
  (xR G o fl_TreeMap_navigableKeySet).bind fun r101 => if r101 = none then (tick 1 1 (cB (hF_J43_init V (gset G nx (.inr (12, [.null]))) (nx + 1) nx (some o)) fun y106 G107 c108 => (xF V.1 G107 o fl_TreeMap_navigableKeySet (va_rf (some nx))).bind fun G113 => hB_J4_navigableKeySet_26 V o G113 ((nx + 1) + c108) (some nx)))
  else (hB_J4_navigableKeySet_26 V o G nx r101)

/-! J4_keySet -/
def hF_J4_keySet (V : HEn) (G : Gh) (nx : Nat) (o : Nat) : HO (Option Nat) :=
  if gC G o 10 = true then cB (hF_J4_navigableKeySet V G nx o) fun r102 G103 c104 => some (r102, G103, 0, 0) else none

/-! J36_init -/
def hF_J36_init (V : HEn) (G : Gh) (nx : Nat) (o : Nat) (a0 : Option Nat) (a1 : Option Nat) : HO (Unit) :=
  cB (hF_J34_init V G nx o a0 a1) fun y101 G102 c103 => some ((), G102, 0, 0)

/-! J4_keyIterator -/
def hF_J4_keyIterator (V : HEn) (G : Gh) (nx : Nat) (o : Nat) : HO (Option Nat) :=
  tick 1 4 (if gC (gset G nx (.inr (13, [.null, .null, .int 0, .null]))) o 10 = true then cB (hF_J4_getFirstEntry V (gset G nx (.inr (13, [.null, .null, .int 0, .null]))) (nx + 1) o) fun r104 G105 c106 => cB (hF_J36_init V G105 ((nx + 1) + c106) nx (some o) r104) fun y111 G112 c113 => some ((some nx), G112, 0, 0) else none)

/-! J45_keyIterator -/
def hF_J45_keyIterator (V : HEn) (G : Gh) (nx : Nat) (o : Nat) : HO (Option Nat) :=
  none

/-! J43_iterator -/
def hF_J43_iterator (V : HEn) (G : Gh) (nx : Nat) (o : Nat) : HO (Option Nat) :=
  (xR G o fl_TreeMap_KeySet_m).bind fun r101 => (gin G r101 [10] []).bind fun v103 => if v103 = 0 then ((xR G o fl_TreeMap_KeySet_m).bind fun r106 => if gok G r106 [16] = true then (r106).bind fun a109 => if gC G a109 16 = true then cB (hF_J45_keyIterator V G nx a109) fun r112 G113 c114 => some (r112, G113, 0, 0) else none else none)
  else ((xR G o fl_TreeMap_KeySet_m).bind fun r119 => if gok G r119 [10] = true then (r119).bind fun a122 => if gC G a122 10 = true then cB (hF_J4_keyIterator V G nx a122) fun r125 G126 c127 => some (r125, G126, 0, 0) else none else none)

/-! J36_next -/
def hF_J36_next (V : HEn) (G : Gh) (nx : Nat) (o : Nat) : HO (Option Nat) :=
  if gC G o 13 = true then cB (hF_J34_nextEntry V G nx o) fun r102 G103 c104 => (r102).bind fun a109 => (xR G103 a109 fl_TreeMap_Entry_key).bind fun r111 => some (r111, G103, 0, 0) else none

/-! J23_intValue -/
def hF_J23_intValue (V : HEn) (G : Gh) (nx : Nat) (o : Nat) : HO (Int32) :=
  (xI G o fl_Integer_value).bind fun v101 => some (v101, G, 0, 0)

/-! J22_init -/
def hF_J22_init (V : HEn) (G : Gh) (nx : Nat) (o : Nat) : HO (Unit) :=
  some ((), G, 0, 0)

/-! J23_init -/
def hF_J23_init (V : HEn) (G : Gh) (nx : Nat) (o : Nat) (a0 : Int32) : HO (Unit) :=
  cB (hF_J22_init V G nx o) fun y101 G102 c103 => (xF V.1 G102 o fl_Integer_value (.int a0)).bind fun G108 => some ((), G108, 0, 0)

/-! J23_valueOf -/
def hB_J23_valueOf_23 (V : HEn)  (G : Gh) (nx : Nat) (l0 : Int32) : HO (Option Nat) :=
  tick 1 1 (cB (hF_J23_init V (gset G nx (.inr (26, [.int 0]))) (nx + 1) nx l0) fun y3 G4 c5 => some ((some nx), G4, 0, 0))

def hF_J23_valueOf (V : HEn) (G : Gh) (nx : Nat) (a0 : Int32) : HO (Option Nat) :=
  if a0 < (-128) then (hB_J23_valueOf_23 V G nx a0)
  else (if 127 < a0 then (hB_J23_valueOf_23 V G nx a0)
  else (((V.2.2.1 1)).bind fun a112 => (rdR G (V.2.1 6) a112 (a0 + 128)).bind fun r114 => some (r114, G, 0, 0)))

/-! J4_getEntryUsingComparator -/
def hB_J4_getEntryUsingComparator_72 (V : HEn) (o : Nat)  (G : Gh) (nx : Nat)  : HO (Option Nat) :=
  some (none, G, 0, 0)

def hF_J4_getEntryUsingComparator (V : HEn) (G : Gh) (nx : Nat) (o : Nat) (a0 : Option Nat) : HO (Option Nat) :=
  (xR G o fl_TreeMap_comparator).bind fun r101 => if r101 = none then (hB_J4_getEntryUsingComparator_72 V o G nx)
  else ((xR G o fl_TreeMap_root).bind fun r104 => if r104 = none then (hB_J4_getEntryUsingComparator_72 V o G nx)
  else (none))

/-! J4_getEntry -/
def hB_J4_getEntry_72 (V : HEn) (o : Nat) (k28 : Gh → Nat → Option Nat → Option Nat → HO (Option Nat)) (G : Gh) (nx : Nat) (l2 : Option Nat) (l3 : Option Nat) : HO (Option Nat) :=
  k28 G nx l2 l3

def hL_J4_getEntry_28 (V : HEn) (o : Nat)  : Nat → Gh → Nat → Option Nat → Option Nat → HO (Option Nat)
  | 0, _, _, _, _ => none
  | n + 1, G, nx, l2, l3 =>
  if l3 = none then (some (none, G, 0, 0))
  else ((l3).bind fun a2 => (xR G a2 fl_TreeMap_Entry_key).bind fun r4 => (l2).bind fun a6 => if gC G a6 26 = true then cB (hF_J23_compareTo V G nx a6 r4) fun y9 G10 c11 => if 0 ≤ y9 then (if y9 ≤ 0 then (some ((some a2), G10, 0, 0))
  else ((xR G10 a2 fl_TreeMap_Entry_right).bind fun r18 => hB_J4_getEntry_72 V o (hL_J4_getEntry_28 V o n) G10 (nx + c11) (some a6) r18))
  else ((xR G10 a2 fl_TreeMap_Entry_left).bind fun r20 => hB_J4_getEntry_72 V o (hL_J4_getEntry_28 V o n) G10 (nx + c11) (some a6) r20) else none)

def hF_J4_getEntry (V : HEn) (G : Gh) (nx : Nat) (o : Nat) (a0 : Option Nat) : HO (Option Nat) :=
  (xR G o fl_TreeMap_comparator).bind fun r122 => if r122 = none then (cB (hF_J26_requireNonNull V G nx a0) fun r125 G126 c127 => if gok G126 a0 [26, 25] = true then (xR G126 o fl_TreeMap_root).bind fun r133 => hL_J4_getEntry_28 V o V.2.2.2.2 G126 (nx + c127) a0 r133 else none)
  else (if gC G o 10 = true then cB (hF_J4_getEntryUsingComparator V G nx o a0) fun r136 G137 c138 => some (r136, G137, 0, 0) else none)

/-! J4_get -/
def hB_J4_get_18 (V : HEn) (o : Nat)  (G : Gh) (nx : Nat) (s0 : Option Nat) : HO (Option Nat) :=
  some (s0, G, 0, 0)

def hF_J4_get (V : HEn) (G : Gh) (nx : Nat) (o : Nat) (a0 : Option Nat) : HO (Option Nat) :=
  if gC G o 10 = true then cB (hF_J4_getEntry V G nx o a0) fun r102 G103 c104 => if r102 = none then (hB_J4_get_18 V o G103 (nx + c104) none)
  else ((r102).bind fun a110 => (xR G103 a110 fl_TreeMap_Entry_value).bind fun r112 => hB_J4_get_18 V o G103 (nx + c104) r112) else none

/-! X7_init -/
def hF_X7_init (V : HEn) (G : Gh) (nx : Nat) (o : Nat) (a0 : Int32) (a1 : Int32) : HO (Unit) :=
  (xF V.1 G o fl_RunWatch_Row_time (.int a0)).bind fun G101 => (xF V.1 G101 o fl_RunWatch_Row_sign (.int a1)).bind fun G103 => some ((), G103, 0, 0)

/-! X6_behind -/
def hF_X6_behind (V : HEn) (G : Gh) (nx : Nat) (o : Nat) (a0 : Int32) (a1 : Int32) : HO (Int32) :=
  (xI G o fl_RunWatch_Rule_set).bind fun v101 => (xI G o fl_RunWatch_Rule_n).bind fun v103 => some ((((a0 <<< (1 &&& 31)) ||| ((v101 >>> (a1 &&& 31)) &&& 1)) &&& (((1 : Int32) <<< (v103 &&& 31)) - 1)), G, 0, 0)

/-! J23_bitCount -/
def hF_J23_bitCount (V : HEn) (G : Gh) (nx : Nat) (a0 : Int32) : HO (Int32) :=
  nmv (a0 - (((a0.toUInt32 >>> ((1 : Int32).toUInt32 &&& Int32.toUInt32 31)).toInt32) &&& 1431655765)) fun y101 => nmv ((y101 &&& 858993459) + (((y101.toUInt32 >>> ((2 : Int32).toUInt32 &&& Int32.toUInt32 31)).toInt32) &&& 858993459)) fun y103 => nmv ((y103 + ((y103.toUInt32 >>> ((4 : Int32).toUInt32 &&& Int32.toUInt32 31)).toInt32)) &&& 252645135) fun y105 => nmv (y105 + ((y105.toUInt32 >>> ((8 : Int32).toUInt32 &&& Int32.toUInt32 31)).toInt32)) fun y107 => nmv (y107 + ((y107.toUInt32 >>> ((16 : Int32).toUInt32 &&& Int32.toUInt32 31)).toInt32)) fun y109 => some ((y109 &&& 63), G, 0, 0)

/-! X6_isMet -/
def hB_X6_isMet_16 (V : HEn) (o : Nat)  (G : Gh) (nx : Nat) (s0 : Int32) : HO (Int32) :=
  if vp_nar .boolean s0 = s0 then some (s0, G, 0, 0) else none

def hF_X6_isMet (V : HEn) (G : Gh) (nx : Nat) (o : Nat) (a0 : Int32) : HO (Int32) :=
  cB (hF_J23_bitCount V G nx a0) fun y102 G103 c104 => (xI G103 o fl_RunWatch_Rule_m).bind fun v109 => if y102 < v109 then (hB_X6_isMet_16 V o G103 (nx + c104) 0)
  else (hB_X6_isMet_16 V o G103 (nx + c104) 1)

/-! X9_isMetBy -/
def hF_X9_isMetBy (V : HEn) (G : Gh) (nx : Nat) (o : Nat) (a0 : Int32) (a1 : Int32) : HO (Int32) :=
  if gC G o 5 = true then cB (hF_X6_behind V G nx o a0 a1) fun y102 G103 c104 => if gC G103 o 5 = true then cB (hF_X6_isMet V G103 (nx + c104) o y102) fun y110 G111 c112 => if vp_nar .boolean y110 = y110 then some (y110, G111, 0, 0) else none else none else none

/-! X2_met -/
def hB_X2_met_75 (V : HEn) (o : Nat) (k19 : Gh → Nat → Int32 → Int32 → Int32 → Int32 → Int32 → Option Nat → HO (Int32)) (G : Gh) (nx : Nat) (s0 : Int32) (s1 : Int32) (l1 : Int32) (l2 : Int32) (l4 : Int32) (l5 : Int32) (l6 : Option Nat) (l7 : Option Nat) : HO (Int32) :=
  (l7).bind fun a1 => (xI G a1 fl_RunWatch_Rule_n).bind fun v3 => k19 G nx l1 l2 (s0 ||| s1) (l4 + (v3 - 1)) (l5 + 1) l6

def hL_X2_met_19 (V : HEn) (o : Nat)  : Nat → Gh → Nat → Int32 → Int32 → Int32 → Int32 → Int32 → Option Nat → HO (Int32)
  | 0, _, _, _, _, _, _, _, _ => none
  | n + 1, G, nx, l1, l2, l3, l4, l5, l6 =>
  (l6).bind fun a5 => if gC G a5 9 = true then cB (hF_J16_hasNext V G nx a5) fun y8 G9 c10 => if y8 = 0 then (some (l3, G9, 0, 0))
  else (if gC G9 a5 9 = true then cB (hF_J16_next V G9 (nx + c10) a5) fun r17 G18 c19 => if gok G18 r17 [5] = true then (r17).bind fun a25 => (xI G18 a25 fl_RunWatch_Rule_n).bind fun v27 => if gC G18 a25 5 = true then cB (hF_X9_isMetBy V G18 ((nx + c10) + c19) a25 ((l1 >>> (l4 &&& 31)) &&& (((1 : Int32) <<< ((v27 - 1) &&& 31)) - 1)) l2) fun y30 G31 c32 => if y30 = 0 then (hB_X2_met_75 V o (hL_X2_met_19 V o n) G31 (((nx + c10) + c19) + c32) l3 0 l1 l2 l4 l5 (some a5) (some a25))
  else (hB_X2_met_75 V o (hL_X2_met_19 V o n) G31 (((nx + c10) + c19) + c32) l3 ((1 : Int32) <<< (l5 &&& 31)) l1 l2 l4 l5 (some a5) (some a25)) else none else none else none) else none

def hF_X2_met (V : HEn) (G : Gh) (nx : Nat) (o : Nat) (a0 : Int32) (a1 : Int32) : HO (Int32) :=
  (xR G o fl_RunWatch_Plan_rules).bind fun r138 => (r138).bind fun a140 => if gC G a140 8 = true then cB (hF_J2_iterator V G nx a140) fun r143 G144 c145 => hL_X2_met_19 V o V.2.2.2.2 G144 (nx + c145) a0 a1 0 0 0 r143 else none

/-! X6_kept -/
def hF_X6_kept (V : HEn) (G : Gh) (nx : Nat) (o : Nat) (a0 : Int32) : HO (Int32) :=
  (xI G o fl_RunWatch_Rule_n).bind fun v101 => some ((a0 &&& (((1 : Int32) <<< ((v101 - 1) &&& 31)) - 1)), G, 0, 0)

/-! X2_behind -/
def hL_X2_behind_16 (V : HEn) (o : Nat)  : Nat → Gh → Nat → Int32 → Int32 → Int32 → Int32 → Option Nat → HO (Int32)
  | 0, _, _, _, _, _, _, _ => none
  | n + 1, G, nx, l1, l2, l3, l4, l5 =>
  (l5).bind fun a1 => if gC G a1 9 = true then cB (hF_J16_hasNext V G nx a1) fun y4 G5 c6 => if y4 = 0 then (some (l3, G5, 0, 0))
  else (if gC G5 a1 9 = true then cB (hF_J16_next V G5 (nx + c6) a1) fun r13 G14 c15 => if gok G14 r13 [5] = true then (r13).bind fun a21 => (xI G14 a21 fl_RunWatch_Rule_n).bind fun v23 => if gC G14 a21 5 = true then cB (hF_X6_behind V G14 ((nx + c6) + c15) a21 ((l1 >>> (l4 &&& 31)) &&& (((1 : Int32) <<< ((v23 - 1) &&& 31)) - 1)) l2) fun y26 G27 c28 => if gC G27 a21 5 = true then cB (hF_X6_kept V G27 (((nx + c6) + c15) + c28) a21 y26) fun y34 G35 c36 => (xI G35 a21 fl_RunWatch_Rule_n).bind fun v41 => (hL_X2_behind_16 V o n) G35 ((((nx + c6) + c15) + c28) + c36) l1 l2 (l3 ||| (y34 <<< (l4 &&& 31))) (l4 + (v41 - 1)) (some a1) else none else none else none else none) else none

def hF_X2_behind (V : HEn) (G : Gh) (nx : Nat) (o : Nat) (a0 : Int32) (a1 : Int32) : HO (Int32) :=
  (xR G o fl_RunWatch_Plan_rules).bind fun r143 => (r143).bind fun a145 => if gC G a145 8 = true then cB (hF_J2_iterator V G nx a145) fun r148 G149 c150 => hL_X2_behind_16 V o V.2.2.2.2 G149 (nx + c150) a0 a1 0 0 r148 else none

/-! J9_hugeLength -/
def hF_J9_hugeLength (V : HEn) (G : Gh) (nx : Nat) (a0 : Int32) (a1 : Int32) : HO (Int32) :=
  if 0 ≤ (a0 + a1) then (if 2147483639 < (a0 + a1) then (some ((a0 + a1), G, 0, 0))
  else (some (2147483639, G, 0, 0)))
  else (none)

/-! J9_newLength -/
def hB_J9_newLength_21 (V : HEn)  (G : Gh) (nx : Nat) (l0 : Int32) (l1 : Int32) : HO (Int32) :=
  cB (hF_J9_hugeLength V G nx l0 l1) fun y1 G2 c3 => some (y1, G2, 0, 0)

def hF_J9_newLength (V : HEn) (G : Gh) (nx : Nat) (a0 : Int32) (a1 : Int32) (a2 : Int32) : HO (Int32) :=
  if (a0 + (if a1 < a2 then a2 else a1)) ≤ (0 : Int32) then (hB_J9_newLength_21 V G nx a0 a1)
  else (if 2147483639 < (a0 + (if a1 < a2 then a2 else a1)) then (hB_J9_newLength_21 V G nx a0 a1)
  else (some ((a0 + (if a1 < a2 then a2 else a1)), G, 0, 0)))

/-! J11_copyOf_3 -/
def hF_J11_copyOf_3 (V : HEn) (G : Gh) (nx : Nat) (a0 : Option Nat) (a1 : Int32) (a2 : Option Nat) : HO (Option Nat) :=
  if a2 = (some (V.2.2.2.1 20)) then ((gn a1).bind fun n102 => tick 1 n102 ((a0).bind fun a106 => (aln (gset G nx (.inl (V.2.1 3, n102, .inr (.inr (.inr (.inr (fun _ => none))))))) (V.2.1 3) a106).bind fun n108 => (cpR V.1 (gset G nx (.inl (V.2.1 3, n102, .inr (.inr (.inr (.inr (fun _ => none))))))) V.2.1 (V.2.1 3) a106 0 nx 0 (if a1 < n108 then a1 else n108) [6, 26, 5, 100]).bind fun G110 => some ((some nx), G110, 0, 0)))
  else (none)

/-! J11_copyOf_2 -/
def hF_J11_copyOf_2 (V : HEn) (G : Gh) (nx : Nat) (a0 : Option Nat) (a1 : Int32) : HO (Option Nat) :=
  (a0).bind fun a101 => (aln G (V.2.1 3) a101).bind fun n103 => cB (hF_J11_copyOf_3 V G nx (some a101) a1 (some (V.2.2.2.1 20))) fun r105 G106 c107 => some (r105, G106, 0, 0)

/-! J2_grow_2 -/
def hB_J2_grow_2_20 (V : HEn) (o : Nat)  (G : Gh) (nx : Nat) (l1 : Int32) (l2 : Int32) : HO (Option Nat) :=
  cB (hF_J9_newLength V G nx l2 (l1 - l2) (l2 >>> (1 &&& 31))) fun y1 G2 c3 => (xR G2 o fl_ArrayList_elementData).bind fun r8 => cB (hF_J11_copyOf_2 V G2 (nx + c3) r8 y1) fun r10 G11 c12 => (xF V.1 G11 o fl_ArrayList_elementData (va_rf r10)).bind fun G17 => some (r10, G17, 0, 0)

def hF_J2_grow_2 (V : HEn) (G : Gh) (nx : Nat) (o : Nat) (a0 : Int32) : HO (Option Nat) :=
  (xR G o fl_ArrayList_elementData).bind fun r119 => (r119).bind fun a121 => (aln G (V.2.1 3) a121).bind fun n123 => if 0 < n123 then (hB_J2_grow_2_20 V o G nx a0 n123)
  else ((xR G o fl_ArrayList_elementData).bind fun r126 => if r126 = (V.2.2.1 0) then ((gn (if (10 : Int32) < a0 then a0 else (10 : Int32))).bind fun n129 => tick 1 n129 ((xF V.1 (gset G nx (.inl (V.2.1 3, n129, .inr (.inr (.inr (.inr (fun _ => none))))))) o fl_ArrayList_elementData (va_rf (some nx))).bind fun G133 => some ((some nx), G133, 0, 0)))
  else (hB_J2_grow_2_20 V o G nx a0 n123))

/-! J2_grow -/
def hF_J2_grow (V : HEn) (G : Gh) (nx : Nat) (o : Nat) : HO (Option Nat) :=
  (xI G o fl_ArrayList_size).bind fun v101 => if gC G o 8 = true then cB (hF_J2_grow_2 V G nx o (v101 + 1)) fun r104 G105 c106 => some (r104, G105, 0, 0) else none

/-! J2_add_2 -/
def hB_J2_add_2_11 (V : HEn) (o : Nat)  (G : Gh) (nx : Nat) (l1 : Option Nat) (l2 : Option Nat) (l3 : Int32) : HO (Unit) :=
  (l2).bind fun a1 => if gokA G V.2.1 l1 [6, 26, 5, 100] = true then (wrR V.1 G (V.2.1 3) a1 l3 l1).bind fun G3 => (xF V.1 G3 o fl_ArrayList_size (.int (l3 + 1))).bind fun G6 => some ((), G6, 0, 0) else none

def hF_J2_add_2 (V : HEn) (G : Gh) (nx : Nat) (o : Nat) (a0 : Option Nat) (a1 : Option Nat) (a2 : Int32) : HO (Unit) :=
  (a1).bind fun a108 => (aln G (V.2.1 3) a108).bind fun n110 => if a2 = n110 then (if gC G o 8 = true then cB (hF_J2_grow V G nx o) fun r114 G115 c116 => hB_J2_add_2_11 V o G115 (nx + c116) a0 r114 a2 else none)
  else (hB_J2_add_2_11 V o G nx a0 (some a108) a2)

/-! J2_add -/
def hF_J2_add (V : HEn) (G : Gh) (nx : Nat) (o : Nat) (a0 : Option Nat) : HO (Int32) :=
  (xI G o fl_AbstractList_modCount).bind fun v101 => (xF V.1 G o fl_AbstractList_modCount (.int (v101 + 1))).bind fun G103 => (xR G103 o fl_ArrayList_elementData).bind fun r105 => (xI G103 o fl_ArrayList_size).bind fun v107 => if gC G103 o 8 = true then cB (hF_J2_add_2 V G103 nx o a0 r105 v107) fun y110 G111 c112 => some (1, G111, 0, 0) else none

/-! X0_goesThrough -/
def hB_X0_goesThrough_282 (V : HEn) (o : Nat) (k40 : Gh → Nat → Option Nat → HO (Unit)) (G : Gh) (nx : Nat) (s0 : Option Nat) (s1 : Int32) (l1 : Option Nat) (l3 : Option Nat) : HO (Unit) :=
  (s0).bind fun a1 => (xF V.1 G a1 fl_RunWatch_down (.int s1)).bind fun G3 => (xI G3 o fl_RunWatch_up).bind fun v5 => (l3).bind fun a7 => (xF V.1 G3 a7 fl_RunWatch_Row_up (.int v5)).bind fun G9 => (xI G9 o fl_RunWatch_down).bind fun v11 => (xF V.1 G9 a7 fl_RunWatch_Row_down (.int v11)).bind fun G13 => (xR G13 o fl_RunWatch_rows).bind fun r15 => (r15).bind fun a17 => if gC G13 a17 8 = true then cB (hF_J2_add V G13 nx a17 (some a7)) fun y20 G21 c22 => k40 G21 (nx + c22) l1 else none

def hB_X0_goesThrough_263 (V : HEn) (o : Nat) (k40 : Gh → Nat → Option Nat → HO (Unit)) (G : Gh) (nx : Nat) (s0 : Option Nat) (s1 : Int32) (l1 : Option Nat) (l3 : Option Nat) : HO (Unit) :=
  (s0).bind fun a27 => (xF V.1 G a27 fl_RunWatch_up (.int s1)).bind fun G29 => (l3).bind fun a31 => (xI G29 a31 fl_RunWatch_Row_isSignal).bind fun v33 => if v33 = 0 then ((xI G29 o fl_RunWatch_down).bind fun v36 => hB_X0_goesThrough_282 V o k40 G29 nx (some o) v36 l1 (some a31))
  else (hB_X0_goesThrough_282 V o k40 G29 nx (some o) 0 l1 (some a31))

def hB_X0_goesThrough_244 (V : HEn) (o : Nat) (k40 : Gh → Nat → Option Nat → HO (Unit)) (G : Gh) (nx : Nat) (s0 : Option Nat) (s1 : Int32) (l1 : Option Nat) (l3 : Option Nat) : HO (Unit) :=
  (s0).bind fun a38 => if s1 = 0 ∨ s1 = 1 then (xF V.1 G a38 fl_RunWatch_Row_isSignal (.int s1)).bind fun G41 => (l3).bind fun a43 => (xI G41 a43 fl_RunWatch_Row_isSignal).bind fun v45 => if v45 = 0 then ((xI G41 o fl_RunWatch_up).bind fun v48 => hB_X0_goesThrough_263 V o k40 G41 nx (some o) v48 l1 (some a43))
  else (hB_X0_goesThrough_263 V o k40 G41 nx (some o) 0 l1 (some a43)) else none

def hB_X0_goesThrough_143 (V : HEn) (o : Nat) (k40 : Gh → Nat → Option Nat → HO (Unit)) (G : Gh) (nx : Nat) (s0 : Option Nat) (s1 : Int32) (l1 : Option Nat) (l3 : Option Nat) : HO (Unit) :=
  (s0).bind fun a50 => (xF V.1 G a50 fl_RunWatch_packed (.int s1)).bind fun G52 => (xI G52 o fl_RunWatch_packed).bind fun v54 => (l3).bind fun a56 => (xF V.1 G52 a56 fl_RunWatch_Row_packed (.int v54)).bind fun G58 => (xI G58 o fl_RunWatch_up).bind fun v60 => (xI G58 a56 fl_RunWatch_Row_sign).bind fun v62 => (xR G58 o fl_RunWatch_now).bind fun r64 => (r64).bind fun a66 => (xR G58 a66 fl_RunWatch_Desk_plan).bind fun r68 => (r68).bind fun a70 => (xI G58 a70 fl_RunWatch_Plan_slack).bind fun v72 => (xF V.1 G58 o fl_RunWatch_up (.int (if (0 : Int32) < (((v60 + v62) - 2) - v72) then (((v60 + v62) - 2) - v72) else (0 : Int32)))).bind fun G74 => (xI G74 o fl_RunWatch_down).bind fun v76 => (xI G74 a56 fl_RunWatch_Row_sign).bind fun v78 => (xR G74 o fl_RunWatch_now).bind fun r80 => (r80).bind fun a82 => (xR G74 a82 fl_RunWatch_Desk_plan).bind fun r84 => (r84).bind fun a86 => (xI G74 a86 fl_RunWatch_Plan_slack).bind fun v88 => (xF V.1 G74 o fl_RunWatch_down (.int (if (0 : Int32) < (((v76 - v78) + 2) - v88) then (((v76 - v78) + 2) - v88) else (0 : Int32)))).bind fun G90 => (xI G90 o fl_RunWatch_up).bind fun v92 => (xI G90 o fl_RunWatch_down).bind fun v94 => (xR G90 o fl_RunWatch_now).bind fun r96 => (r96).bind fun a98 => (xR G90 a98 fl_RunWatch_Desk_plan).bind fun r100 => (r100).bind fun a102 => (xI G90 a102 fl_RunWatch_Plan_limit).bind fun v104 => if (if v92 < v94 then v94 else v92) ≤ v104 then (hB_X0_goesThrough_244 V o k40 G90 nx (some a56) 0 l1 (some a56))
  else (hB_X0_goesThrough_244 V o k40 G90 nx (some a56) 1 l1 (some a56))

def hB_X0_goesThrough_87 (V : HEn) (o : Nat) (k40 : Gh → Nat → Option Nat → HO (Unit)) (G : Gh) (nx : Nat) (s0 : Option Nat) (s1 : Option Nat) (s2 : Int32) (s3 : Int32) (l1 : Option Nat) : HO (Unit) :=
  (s1).bind fun a107 => cB (hF_X7_init V G nx a107 s2 s3) fun y109 G110 c111 => (xR G110 o fl_RunWatch_now).bind fun r116 => (r116).bind fun a118 => (xR G110 a118 fl_RunWatch_Desk_plan).bind fun r120 => (xI G110 o fl_RunWatch_packed).bind fun v122 => (s0).bind fun a124 => (xI G110 a124 fl_RunWatch_Row_sign).bind fun v126 => (r120).bind fun a128 => if gC G110 a128 2 = true then cB (hF_X2_met V G110 (nx + c111) a128 v122 v126) fun y131 G132 c133 => (xF V.1 G132 a124 fl_RunWatch_Row_met (.int y131)).bind fun G138 => (xI G138 a124 fl_RunWatch_Row_met).bind fun v140 => if v140 = 0 then ((xR G138 o fl_RunWatch_now).bind fun r143 => (r143).bind fun a145 => (xR G138 a145 fl_RunWatch_Desk_plan).bind fun r147 => (xI G138 o fl_RunWatch_packed).bind fun v149 => (xI G138 a124 fl_RunWatch_Row_sign).bind fun v151 => (r147).bind fun a153 => if gC G138 a153 2 = true then cB (hF_X2_behind V G138 ((nx + c111) + c133) a153 v149 v151) fun y156 G157 c158 => hB_X0_goesThrough_143 V o k40 G157 (((nx + c111) + c133) + c158) (some o) y156 l1 (some a124) else none)
  else (hB_X0_goesThrough_143 V o k40 G138 ((nx + c111) + c133) (some o) 0 l1 (some a124)) else none

def hL_X0_goesThrough_40 (V : HEn) (o : Nat)  : Nat → Gh → Nat → Option Nat → HO (Unit)
  | 0, _, _, _ => none
  | n + 1, G, nx, l1 =>
  (l1).bind fun a163 => if gC G a163 13 = true then cB (hF_J34_hasNext V G nx a163) fun y166 G167 c168 => if y166 = 0 then (some ((), G167, 0, 0))
  else (if gC G167 a163 13 = true then cB (hF_J36_next V G167 (nx + c168) a163) fun r175 G176 c177 => if gok G176 r175 [26] = true then (r175).bind fun a183 => if gC G176 a183 26 = true then cB (hF_J23_intValue V G176 ((nx + c168) + c177) a183) fun y186 G187 c188 => tick 1 7 ((xR (gset G187 (((nx + c168) + c177) + c188) (.inr (6, [.int 0, .int 0, .int 0, .int 0, .int 0, .int 0, .int 0]))) o fl_RunWatch_now).bind fun r195 => (r195).bind fun a197 => (xR (gset G187 (((nx + c168) + c177) + c188) (.inr (6, [.int 0, .int 0, .int 0, .int 0, .int 0, .int 0, .int 0]))) a197 fl_RunWatch_Desk_rows).bind fun r199 => cB (hF_J23_valueOf V (gset G187 (((nx + c168) + c177) + c188) (.inr (6, [.int 0, .int 0, .int 0, .int 0, .int 0, .int 0, .int 0]))) ((((nx + c168) + c177) + c188) + 1) y186) fun r201 G202 c203 => (r199).bind fun a208 => if gC G202 a208 10 = true then cB (hF_J4_get V G202 (((((nx + c168) + c177) + c188) + 1) + c203) a208 r201) fun r211 G212 c213 => if gok G212 r211 [26] = true then (r211).bind fun a219 => if gC G212 a219 26 = true then cB (hF_J23_intValue V G212 ((((((nx + c168) + c177) + c188) + 1) + c203) + c213) a219) fun y222 G223 c224 => hB_X0_goesThrough_87 V o (hL_X0_goesThrough_40 V o n) G223 (((((((nx + c168) + c177) + c188) + 1) + c203) + c213) + c224) (some (((nx + c168) + c177) + c188)) (some (((nx + c168) + c177) + c188)) y186 y222 (some a163) else none else none else none) else none else none else none) else none

def hF_X0_goesThrough (V : HEn) (G : Gh) (nx : Nat) (o : Nat) : HO (Unit) :=
  (xR G o fl_RunWatch_rows).bind fun r329 => (r329).bind fun a331 => if gC G a331 8 = true then cB (hF_J2_clear V G nx a331) fun y334 G335 c336 => (xF V.1 G335 o fl_RunWatch_packed (.int 0)).bind fun G341 => (xF V.1 G341 o fl_RunWatch_up (.int 0)).bind fun G343 => (xF V.1 G343 o fl_RunWatch_down (.int 0)).bind fun G345 => (xR G345 o fl_RunWatch_now).bind fun r347 => (r347).bind fun a349 => (xR G345 a349 fl_RunWatch_Desk_rows).bind fun r351 => (r351).bind fun a353 => if gC G345 a353 10 = true then cB (hF_J4_keySet V G345 (nx + c336) a353) fun r356 G357 c358 => (r356).bind fun a363 => if gC G357 a363 12 = true then cB (hF_J43_iterator V G357 ((nx + c336) + c358) a363) fun r366 G367 c368 => hL_X0_goesThrough_40 V o V.2.2.2.2 G367 (((nx + c336) + c358) + c368) r366 else none else none else none

/-! X0_becomes -/
def hF_X0_becomes (V : HEn) (G : Gh) (nx : Nat) (o : Nat) (a0 : Option Nat) : HO (Unit) :=
  (xF V.1 G o fl_RunWatch_now (va_rf a0)).bind fun G101 => if gC G101 o 0 = true then cB (hF_X0_goesThrough V G101 nx o) fun y104 G105 c106 => some ((), G105, 0, 0) else none

/-! X0_back -/
def hF_X0_back (V : HEn) (G : Gh) (nx : Nat) (o : Nat) (a0 : Int32) : HO (Int32) :=
  cB (hF_X0_isIn V G nx a0 0 1) fun y101 G102 c103 => if y101 = 0 then (some ((-1), G102, 0, 0))
  else ((xR G102 o fl_RunWatch_images).bind fun r109 => (r109).bind fun a111 => (rdR G102 (V.2.1 5) a111 a0).bind fun r113 => if r113 = none then (some ((-2), G102, 0, 0))
  else ((xR G102 o fl_RunWatch_images).bind fun r116 => (r116).bind fun a118 => (rdR G102 (V.2.1 5) a118 a0).bind fun r120 => (r120).bind fun a122 => if gC G102 a122 1 = true then cB (hF_X1_copy V G102 (nx + c103) a122) fun r125 G126 c127 => if gC G126 o 0 = true then cB (hF_X0_becomes V G126 ((nx + c103) + c127) o r125) fun y133 G134 c135 => (xF V.1 G134 o fl_RunWatch_doneMany (.int 0)).bind fun G140 => (xR G140 o fl_RunWatch_now).bind fun r142 => (r142).bind fun a144 => (xR G140 a144 fl_RunWatch_Desk_rows).bind fun r146 => (r146).bind fun a148 => if gC G140 a148 10 = true then cB (hF_J4_size V G140 (((nx + c103) + c127) + c135) a148) fun y151 G152 c153 => some (y151, G152, 0, 0) else none else none else none))

/-! J2_size -/
def hF_J2_size (V : HEn) (G : Gh) (nx : Nat) (o : Nat) : HO (Int32) :=
  (xI G o fl_ArrayList_size).bind fun v101 => some (v101, G, 0, 0)

/-! X0_isRow -/
def hF_X0_isRow (V : HEn) (G : Gh) (nx : Nat) (o : Nat) (a0 : Int32) : HO (Int32) :=
  (xR G o fl_RunWatch_rows).bind fun r101 => (r101).bind fun a103 => if gC G a103 8 = true then cB (hF_J2_size V G nx a103) fun y106 G107 c108 => cB (hF_X0_isIn V G107 (nx + c108) a0 0 (y106 - 1)) fun y113 G114 c115 => if vp_nar .boolean y113 = y113 then some (y113, G114, 0, 0) else none else none

/-! X0_isSign -/
def hF_X0_isSign (V : HEn) (G : Gh) (nx : Nat) (a0 : Int32) : HO (Int32) :=
  cB (hF_X0_isIn V G nx a0 0 4) fun y101 G102 c103 => if vp_nar .boolean y101 = y101 then some (y101, G102, 0, 0) else none

/-! J13_checkIndex -/
def hB_J13_checkIndex_9 (V : HEn)  (G : Gh) (nx : Nat) (l2 : Option Nat) : HO (Int32) :=
  none

def hF_J13_checkIndex (V : HEn) (G : Gh) (nx : Nat) (a0 : Int32) (a1 : Int32) (a2 : Option Nat) : HO (Int32) :=
  if a0 < 0 then (hB_J13_checkIndex_9 V G nx a2)
  else (if a0 < a1 then (some (a0, G, 0, 0))
  else (hB_J13_checkIndex_9 V G nx a2))

/-! J26_checkIndex -/
def hF_J26_checkIndex (V : HEn) (G : Gh) (nx : Nat) (a0 : Int32) (a1 : Int32) : HO (Int32) :=
  cB (hF_J13_checkIndex V G nx a0 a1 none) fun y101 G102 c103 => some (y101, G102, 0, 0)

/-! J2_elementData -/
def hF_J2_elementData (V : HEn) (G : Gh) (nx : Nat) (o : Nat) (a0 : Int32) : HO (Option Nat) :=
  (xR G o fl_ArrayList_elementData).bind fun r101 => (r101).bind fun a103 => (rdR G (V.2.1 3) a103 a0).bind fun r105 => some (r105, G, 0, 0)

/-! J2_get -/
def hF_J2_get (V : HEn) (G : Gh) (nx : Nat) (o : Nat) (a0 : Int32) : HO (Option Nat) :=
  (xI G o fl_ArrayList_size).bind fun v101 => cB (hF_J26_checkIndex V G nx a0 v101) fun y103 G104 c105 => if gC G104 o 8 = true then cB (hF_J2_elementData V G104 (nx + c105) o a0) fun r111 G112 c113 => some (r111, G112, 0, 0) else none

/-! X0_notes -/
def hB_X0_notes_33 (V : HEn) (o : Nat)  (G : Gh) (nx : Nat)  : HO (Unit) :=
  (xR G o fl_RunWatch_done).bind fun r1 => (xI G o fl_RunWatch_doneMany).bind fun v3 => (xR G o fl_RunWatch_now).bind fun r5 => (r5).bind fun a7 => if gC G a7 1 = true then cB (hF_X1_copy V G nx a7) fun r10 G11 c12 => (r1).bind fun a17 => if gokA G11 V.2.1 r10 [1] = true then (wrR V.1 G11 (V.2.1 5) a17 v3 r10).bind fun G19 => (xI G19 o fl_RunWatch_doneMany).bind fun v22 => (xF V.1 G19 o fl_RunWatch_doneMany (.int (v22 + 1))).bind fun G24 => some ((), G24, 0, 0) else none else none

def hF_X0_notes (V : HEn) (G : Gh) (nx : Nat) (o : Nat) : HO (Unit) :=
  (xI G o fl_RunWatch_doneMany).bind fun v126 => if v126 = 6 then ((xR G o fl_RunWatch_done).bind fun r129 => (xR G o fl_RunWatch_done).bind fun r131 => (r129).bind fun a133 => (r131).bind fun a135 => (cpR V.1 G V.2.1 (V.2.1 5) a133 1 a135 0 5 [1]).bind fun G137 => (xI G137 o fl_RunWatch_doneMany).bind fun v139 => (xF V.1 G137 o fl_RunWatch_doneMany (.int (v139 - 1))).bind fun G141 => hB_X0_notes_33 V o G141 nx)
  else (hB_X0_notes_33 V o G nx)

/-! X0_becomes_2 -/
def hB_X0_becomes_2_15 (V : HEn) (o : Nat)  (G : Gh) (nx : Nat)  : HO (Int32) :=
  some ((-1), G, 0, 0)

def hB_X0_becomes_2_67 (V : HEn) (o : Nat)  (G : Gh) (nx : Nat) (s0 : Option Nat) (l3 : Option Nat) : HO (Int32) :=
  if gC G o 0 = true then cB (hF_X0_goesThrough V G nx o) fun y2 G3 c4 => (l3).bind fun a9 => (xI G3 a9 fl_RunWatch_Row_sign).bind fun v11 => some (v11, G3, 0, 0) else none

def hF_X0_becomes_2 (V : HEn) (G : Gh) (nx : Nat) (o : Nat) (a0 : Int32) (a1 : Int32) : HO (Int32) :=
  if gC G o 0 = true then cB (hF_X0_isRow V G nx o a0) fun y114 G115 c116 => if y114 = 0 then (hB_X0_becomes_2_15 V o G115 (nx + c116))
  else (cB (hF_X0_isSign V G115 (nx + c116) a1) fun y122 G123 c124 => if y122 = 0 then (hB_X0_becomes_2_15 V o G123 ((nx + c116) + c124))
  else ((xR G123 o fl_RunWatch_rows).bind fun r130 => (r130).bind fun a132 => if gC G123 a132 8 = true then cB (hF_J2_get V G123 ((nx + c116) + c124) a132 a0) fun r135 G136 c137 => if gok G136 r135 [6] = true then (r135).bind fun a143 => (xI G136 a143 fl_RunWatch_Row_sign).bind fun v145 => if v145 = a1 then (some ((-2), G136, 0, 0))
  else (if gC G136 o 0 = true then cB (hF_X0_notes V G136 (((nx + c116) + c124) + c137) o) fun y149 G150 c151 => (xR G150 o fl_RunWatch_now).bind fun r156 => (r156).bind fun a158 => (xR G150 a158 fl_RunWatch_Desk_rows).bind fun r160 => (xI G150 a143 fl_RunWatch_Row_time).bind fun v162 => cB (hF_J23_valueOf V G150 ((((nx + c116) + c124) + c137) + c151) v162) fun r164 G165 c166 => cB (hF_J23_valueOf V G165 (((((nx + c116) + c124) + c137) + c151) + c166) a1) fun r171 G172 c173 => (r160).bind fun a178 => if gC G172 a178 10 = true then cB (hF_J4_put V G172 ((((((nx + c116) + c124) + c137) + c151) + c166) + c173) a178 r164 r171) fun r181 G182 c183 => hB_X0_becomes_2_67 V o G182 (((((((nx + c116) + c124) + c137) + c151) + c166) + c173) + c183) r181 (some a143) else none else none) else none else none)) else none

/-! X0_chance -/
def hB_X0_chance_23 (V : HEn) (o : Nat)  (G : Gh) (nx : Nat) (s0 : Int32) : HO (Int32) :=
  some (s0, G, 0, 0)

def hF_X0_chance (V : HEn) (G : Gh) (nx : Nat) (o : Nat) (a0 : Int32) : HO (Int32) :=
  cB (hF_X0_isSign V G nx a0) fun y101 G102 c103 => if y101 = 0 then (hB_X0_chance_23 V o G102 (nx + c103) (-1))
  else ((xR G102 o fl_RunWatch_now).bind fun r109 => (r109).bind fun a111 => (xR G102 a111 fl_RunWatch_Desk_plan).bind fun r113 => (r113).bind fun a115 => (xR G102 a115 fl_RunWatch_Plan_chances).bind fun r117 => (r117).bind fun a119 => (rdI G102 (V.2.1 0) a119 a0).bind fun v121 => hB_X0_chance_23 V o G102 (nx + c103) v121)

/-! J5_length -/
def hF_J5_length (V : HEn) (G : Gh) (nx : Nat) (o : Nat) : HO (Int32) :=
  (xI G o fl_AbstractStringBuilder_count).bind fun v101 => some (v101, G, 0, 0)

/-! J6_length -/
def hF_J6_length (V : HEn) (G : Gh) (nx : Nat) (o : Nat) : HO (Int32) :=
  if gC G o 24 = true then cB (hF_J5_length V G nx o) fun y102 G103 c104 => some (y102, G103, 0, 0) else none

/-! J5_newCapacity -/
def hF_J5_newCapacity (V : HEn) (G : Gh) (nx : Nat) (o : Nat) (a0 : Int32) : HO (Int32) :=
  (xR G o fl_AbstractStringBuilder_value).bind fun r101 => (r101).bind fun a103 => (aln G (V.2.1 1) a103).bind fun n105 => (xI G o fl_AbstractStringBuilder_coder).bind fun v107 => (xI G o fl_AbstractStringBuilder_coder).bind fun v109 => cB (hF_J9_newLength V G nx n105 ((a0 <<< (v107 &&& 31)) - n105) (n105 + ((2 : Int32) <<< (v109 &&& 31)))) fun y111 G112 c113 => if y111 = 2147483647 then (none)
  else ((xI G112 o fl_AbstractStringBuilder_coder).bind fun v119 => some ((y111 >>> (v119 &&& 31)), G112, 0, 0))

/-! J11_copyOf -/
def hF_J11_copyOf (V : HEn) (G : Gh) (nx : Nat) (a0 : Option Nat) (a1 : Int32) : HO (Option Nat) :=
  (a0).bind fun a101 => (aln G (V.2.1 1) a101).bind fun n103 => if a1 = n103 then ((clB G (V.2.1 1) a101).bind fun x106 => tick 1 x106.1 ((aln (gset G nx (.inl (V.2.1 1, x106.1, .inl x106.2))) (V.2.1 1) nx).bind fun n110 => some ((some nx), (gset G nx (.inl (V.2.1 1, x106.1, .inl x106.2))), 0, 0)))
  else ((gn a1).bind fun n112 => tick 1 n112 ((aln (gset G nx (.inl (V.2.1 1, n112, .inl (fun _ => 0)))) (V.2.1 1) a101).bind fun n116 => (cpI V.1 (gset G nx (.inl (V.2.1 1, n112, .inl (fun _ => 0)))) (V.2.1 1) a101 0 nx 0 (if a1 < n116 then a1 else n116)).bind fun G118 => some ((some nx), G118, 0, 0)))

/-! J5_ensureCapacityInternal -/
def hB_J5_ensureCapacityInternal_38 (V : HEn) (o : Nat)  (G : Gh) (nx : Nat)  : HO (Unit) :=
  some ((), G, 0, 0)

def hF_J5_ensureCapacityInternal (V : HEn) (G : Gh) (nx : Nat) (o : Nat) (a0 : Int32) : HO (Unit) :=
  (xR G o fl_AbstractStringBuilder_value).bind fun r101 => (r101).bind fun a103 => (aln G (V.2.1 1) a103).bind fun n105 => (xI G o fl_AbstractStringBuilder_coder).bind fun v107 => if (a0 - (n105 >>> (v107 &&& 31))) ≤ 0 then (hB_J5_ensureCapacityInternal_38 V o G nx)
  else ((xR G o fl_AbstractStringBuilder_value).bind fun r110 => if gC G o 24 = true then cB (hF_J5_newCapacity V G nx o a0) fun y113 G114 c115 => (xI G114 o fl_AbstractStringBuilder_coder).bind fun v120 => cB (hF_J11_copyOf V G114 (nx + c115) r110 (y113 <<< (v120 &&& 31))) fun r122 G123 c124 => (xF V.1 G123 o fl_AbstractStringBuilder_value (va_rf r122)).bind fun G129 => hB_J5_ensureCapacityInternal_38 V o G129 ((nx + c115) + c124) else none)

/-! J5_isLatin1 -/
def hB_J5_isLatin1_18 (V : HEn) (o : Nat)  (G : Gh) (nx : Nat) (s0 : Int32) : HO (Int32) :=
  if vp_nar .boolean s0 = s0 then some (s0, G, 0, 0) else none

def hB_J5_isLatin1_17 (V : HEn) (o : Nat)  (G : Gh) (nx : Nat)  : HO (Int32) :=
  hB_J5_isLatin1_18 V o G nx 0

def hF_J5_isLatin1 (V : HEn) (G : Gh) (nx : Nat) (o : Nat) : HO (Int32) :=
  if (1 : Int32) = 0 then (hB_J5_isLatin1_17 V o G nx)
  else ((xI G o fl_AbstractStringBuilder_coder).bind fun v103 => if v103 = 0 then (hB_J5_isLatin1_18 V o G nx 1)
  else (hB_J5_isLatin1_17 V o G nx))

/-! J11_rangeCheck -/
def hF_J11_rangeCheck (V : HEn) (G : Gh) (nx : Nat) (a0 : Int32) (a1 : Int32) (a2 : Int32) : HO (Unit) :=
  if a1 ≤ a2 then (if 0 ≤ a1 then (if a2 ≤ a0 then (some ((), G, 0, 0))
  else (none))
  else (none))
  else (none)

/-! J11_fill -/
def hL_J11_fill_10 (V : HEn)  : Nat → Gh → Nat → Option Nat → Int32 → Int32 → Int32 → HO (Unit)
  | 0, _, _, _, _, _, _ => none
  | n + 1, G, nx, l0, l2, l3, l4 =>
  if l2 ≤ l4 then (some ((), G, 0, 0))
  else ((l0).bind fun a2 => (wrI V.1 G (V.2.1 1) a2 l4 (vp_nar .byte l3)).bind fun G4 => (hL_J11_fill_10 V  n) G4 nx (some a2) l2 l3 (l4 + 1))

def hF_J11_fill (V : HEn) (G : Gh) (nx : Nat) (a0 : Option Nat) (a1 : Int32) (a2 : Int32) (a3 : Int32) : HO (Unit) :=
  (a0).bind fun a106 => (aln G (V.2.1 1) a106).bind fun n108 => cB (hF_J11_rangeCheck V G nx n108 a1 a2) fun y110 G111 c112 => hL_J11_fill_10 V V.2.2.2.2 G111 (nx + c112) (some a106) a2 a3 a1

/-! J12_fillNull -/
def hF_J12_fillNull (V : HEn) (G : Gh) (nx : Nat) (a0 : Option Nat) (a1 : Int32) (a2 : Int32) : HO (Unit) :=
  cB (hF_J11_fill V G nx a0 a1 a2 0) fun y101 G102 c103 => some ((), G102, 0, 0)

/-! J5_setLength -/
def hB_J5_setLength_76 (V : HEn) (o : Nat)  (G : Gh) (nx : Nat) (l1 : Int32) : HO (Unit) :=
  (xF V.1 G o fl_AbstractStringBuilder_count (.int l1)).bind fun G1 => some ((), G1, 0, 0)

def hF_J5_setLength (V : HEn) (G : Gh) (nx : Nat) (o : Nat) (a0 : Int32) : HO (Unit) :=
  if 0 ≤ a0 then (if gC G o 24 = true then cB (hF_J5_ensureCapacityInternal V G nx o a0) fun y105 G106 c107 => (xI G106 o fl_AbstractStringBuilder_count).bind fun v112 => if a0 ≤ v112 then ((xI G106 o fl_AbstractStringBuilder_count).bind fun v115 => if v115 ≤ a0 then (hB_J5_setLength_76 V o G106 (nx + c107) a0)
  else ((xF V.1 G106 o fl_AbstractStringBuilder_maybeLatin1 (.int 1)).bind fun G118 => hB_J5_setLength_76 V o G118 (nx + c107) a0))
  else (if gC G106 o 24 = true then cB (hF_J5_isLatin1 V G106 (nx + c107) o) fun y121 G122 c123 => if y121 = 0 then (none)
  else ((xR G122 o fl_AbstractStringBuilder_value).bind fun r129 => (xI G122 o fl_AbstractStringBuilder_count).bind fun v131 => cB (hF_J12_fillNull V G122 ((nx + c107) + c123) r129 v131 a0) fun y133 G134 c135 => hB_J5_setLength_76 V o G134 (((nx + c107) + c123) + c135) a0) else none) else none)
  else (none)

/-! J6_setLength -/
def hF_J6_setLength (V : HEn) (G : Gh) (nx : Nat) (o : Nat) (a0 : Int32) : HO (Unit) :=
  if gC G o 24 = true then cB (hF_J5_setLength V G nx o a0) fun y102 G103 c104 => some ((), G103, 0, 0) else none

/-! X0_clear -/
def hF_X0_clear (V : HEn) (G : Gh) (nx : Nat) (o : Nat) : HO (Int32) :=
  (xR G o fl_RunWatch_text).bind fun r101 => (r101).bind fun a103 => if gC G a103 24 = true then cB (hF_J6_length V G nx a103) fun y106 G107 c108 => (xR G107 o fl_RunWatch_text).bind fun r113 => (r113).bind fun a115 => if gC G107 a115 24 = true then cB (hF_J6_setLength V G107 (nx + c108) a115 0) fun y118 G119 c120 => some (y106, G119, 0, 0) else none else none

/-! J4_containsKey -/
def hB_J4_containsKey_13 (V : HEn) (o : Nat)  (G : Gh) (nx : Nat) (s0 : Int32) : HO (Int32) :=
  if vp_nar .boolean s0 = s0 then some (s0, G, 0, 0) else none

def hF_J4_containsKey (V : HEn) (G : Gh) (nx : Nat) (o : Nat) (a0 : Option Nat) : HO (Int32) :=
  if gC G o 10 = true then cB (hF_J4_getEntry V G nx o a0) fun r103 G104 c105 => if r103 = none then (hB_J4_containsKey_13 V o G104 (nx + c105) 0)
  else (hB_J4_containsKey_13 V o G104 (nx + c105) 1) else none

/-! J44_init -/
def hB_J44_init_58 (V : HEn) (o : Nat)  (G : Gh) (nx : Nat) (l1 : Option Nat) (l2 : Int32) (l3 : Option Nat) (l4 : Int32) (l5 : Int32) (l6 : Option Nat) (l7 : Int32) : HO (Unit) :=
  (xF V.1 G o fl_TreeMap_NavigableSubMap_m (va_rf l1)).bind fun G1 => if l2 = 0 ∨ l2 = 1 then (xF V.1 G1 o fl_TreeMap_NavigableSubMap_fromStart (.int l2)).bind fun G4 => (xF V.1 G4 o fl_TreeMap_NavigableSubMap_lo (va_rf l3)).bind fun G6 => if l4 = 0 ∨ l4 = 1 then (xF V.1 G6 o fl_TreeMap_NavigableSubMap_loInclusive (.int l4)).bind fun G9 => if l5 = 0 ∨ l5 = 1 then (xF V.1 G9 o fl_TreeMap_NavigableSubMap_toEnd (.int l5)).bind fun G12 => (xF V.1 G12 o fl_TreeMap_NavigableSubMap_hi (va_rf l6)).bind fun G14 => if l7 = 0 ∨ l7 = 1 then (xF V.1 G14 o fl_TreeMap_NavigableSubMap_hiInclusive (.int l7)).bind fun G17 => some ((), G17, 0, 0) else none else none else none else none

def hB_J44_init_44 (V : HEn) (o : Nat)  (G : Gh) (nx : Nat) (l1 : Option Nat) (l2 : Int32) (l3 : Option Nat) (l4 : Int32) (l5 : Int32) (l6 : Option Nat) (l7 : Int32) : HO (Unit) :=
  if l5 = 0 then ((l1).bind fun a20 => if gC G a20 10 = true then cB (hF_J4_compare V G nx a20 l6 l6) fun y23 G24 c25 => hB_J44_init_58 V o G24 (nx + c25) (some a20) l2 l3 l4 l5 l6 l7 else none)
  else (hB_J44_init_58 V o G nx l1 l2 l3 l4 l5 l6 l7)

def hB_J44_init_33 (V : HEn) (o : Nat)  (G : Gh) (nx : Nat) (l1 : Option Nat) (l2 : Int32) (l3 : Option Nat) (l4 : Int32) (l5 : Int32) (l6 : Option Nat) (l7 : Int32) : HO (Unit) :=
  if l2 = 0 then ((l1).bind fun a31 => if gC G a31 10 = true then cB (hF_J4_compare V G nx a31 l3 l3) fun y34 G35 c36 => hB_J44_init_44 V o G35 (nx + c36) (some a31) l2 l3 l4 l5 l6 l7 else none)
  else (hB_J44_init_44 V o G nx l1 l2 l3 l4 l5 l6 l7)

def hF_J44_init (V : HEn) (G : Gh) (nx : Nat) (o : Nat) (a0 : Option Nat) (a1 : Int32) (a2 : Option Nat) (a3 : Int32) (a4 : Int32) (a5 : Option Nat) (a6 : Int32) : HO (Unit) :=
  cB (hF_J3_init V G nx o) fun y141 G142 c143 => if a1 = 0 then (if a4 = 0 then ((a0).bind fun a150 => if gC G142 a150 10 = true then cB (hF_J4_compare V G142 (nx + c143) a150 a2 a5) fun y153 G154 c155 => if y153 ≤ 0 then (hB_J44_init_58 V o G154 ((nx + c143) + c155) (some a150) a1 a2 a3 a4 a5 a6)
  else (none) else none)
  else (hB_J44_init_33 V o G142 (nx + c143) a0 a1 a2 a3 a4 a5 a6))
  else (hB_J44_init_33 V o G142 (nx + c143) a0 a1 a2 a3 a4 a5 a6)

/-! J45_init -/
def hF_J45_init (V : HEn) (G : Gh) (nx : Nat) (o : Nat) (a0 : Option Nat) (a1 : Int32) (a2 : Option Nat) (a3 : Int32) (a4 : Int32) (a5 : Option Nat) (a6 : Int32) : HO (Unit) :=
  cB (hF_J44_init V G nx o a0 a1 a2 a3 a4 a5 a6) fun y101 G102 c103 => some ((), G102, 0, 0)

/-! J4_headMap_2 -/
def hF_J4_headMap_2 (V : HEn) (G : Gh) (nx : Nat) (o : Nat) (a0 : Option Nat) (a1 : Int32) : HO (Option Nat) :=
  tick 1 12 (cB (hF_J45_init V (gset G nx (.inr (16, [.null, .null, .null, .int 0, .int 0, .int 0, .int 0, .null, .null, .null, .null, .null]))) (nx + 1) nx (some o) 1 none 1 0 a0 a1) fun y103 G104 c105 => some ((some nx), G104, 0, 0))

/-! J4_headMap -/
def hF_J4_headMap (V : HEn) (G : Gh) (nx : Nat) (o : Nat) (a0 : Option Nat) : HO (Option Nat) :=
  if gC G o 10 = true then cB (hF_J4_headMap_2 V G nx o a0 0) fun r102 G103 c104 => some (r102, G103, 0, 0) else none

/-! J18_init -/
def hF_J18_init (V : HEn) (G : Gh) (nx : Nat) (o : Nat) (a0 : Option Nat) : HO (Unit) :=
  (xF V.1 G o fl_TreeMap_NavigableSubMap_EntrySetView_this_0 (va_rf a0)).bind fun G101 => cB (hF_J17_init V G101 nx o) fun y103 G104 c105 => (xF V.1 G104 o fl_TreeMap_NavigableSubMap_EntrySetView_size (.int (-1))).bind fun G110 => some ((), G110, 0, 0)

/-! J19_init -/
def hF_J19_init (V : HEn) (G : Gh) (nx : Nat) (o : Nat) (a0 : Option Nat) : HO (Unit) :=
  (xF V.1 G o fl_TreeMap_AscendingSubMap_AscendingEntrySetView_this_0 (va_rf a0)).bind fun G101 => cB (hF_J18_init V G101 nx o a0) fun y103 G104 c105 => some ((), G104, 0, 0)

/-! J45_entrySet -/
def hB_J45_entrySet_26 (V : HEn) (o : Nat)  (G : Gh) (nx : Nat) (s0 : Option Nat) : HO (Option Nat) :=
  some (s0, G, 0, 0)

def hF_J45_entrySet (V : HEn) (G : Gh) (nx : Nat) (o : Nat) : HO (Option Nat) :=
  (xR G o fl_TreeMap_NavigableSubMap_entrySetView).bind fun r101 => if r101 = none then (tick 1 4 (cB (hF_J19_init V (gset G nx (.inr (17, [.int 0, .int 0, .null, .null]))) (nx + 1) nx (some o)) fun y106 G107 c108 => (xF V.1 G107 o fl_TreeMap_NavigableSubMap_entrySetView (va_rf (some nx))).bind fun G113 => hB_J45_entrySet_26 V o G113 ((nx + 1) + c108) (some nx)))
  else (hB_J45_entrySet_26 V o G nx r101)

/-! J43_size -/
def hF_J43_size (V : HEn) (G : Gh) (nx : Nat) (o : Nat) : HO (Int32) :=
  none

/-! J29_size -/
def hF_J29_size (V : HEn) (G : Gh) (nx : Nat) (o : Nat) : HO (Int32) :=
  (xR G o fl_TreeMap_EntrySet_this_0).bind fun r101 => (r101).bind fun a103 => if gC G a103 10 = true then cB (hF_J4_size V G nx a103) fun y106 G107 c108 => some (y106, G107, 0, 0) else none

/-! J4_getCeilingEntry -/
def hB_J4_getCeilingEntry_97 (V : HEn) (o : Nat)  (G : Gh) (nx : Nat) (l4 : Option Nat) : HO (Option Nat) :=
  some (l4, G, 0, 0)

def hL_J4_getCeilingEntry_68 (V : HEn) (o : Nat)  : Nat → Gh → Nat → Option Nat → Option Nat → HO (Option Nat)
  | 0, _, _, _, _ => none
  | n + 1, G, nx, l4, l5 =>
  if l4 = none then (hB_J4_getCeilingEntry_97 V o G nx l4)
  else ((l4).bind fun a2 => (xR G a2 fl_TreeMap_Entry_right).bind fun r4 => if l5 = r4 then ((xR G a2 fl_TreeMap_Entry_parent).bind fun r7 => (hL_J4_getCeilingEntry_68 V o n) G nx r7 (some a2))
  else (hB_J4_getCeilingEntry_97 V o G nx (some a2)))

def hB_J4_getCeilingEntry_102 (V : HEn) (o : Nat) (k5 : Gh → Nat → Option Nat → Option Nat → HO (Option Nat)) (G : Gh) (nx : Nat) (l1 : Option Nat) (l2 : Option Nat) : HO (Option Nat) :=
  k5 G nx l1 l2

def hL_J4_getCeilingEntry_5 (V : HEn) (o : Nat)  : Nat → Gh → Nat → Option Nat → Option Nat → HO (Option Nat)
  | 0, _, _, _, _ => none
  | n + 1, G, nx, l1, l2 =>
  if l2 = none then (some (none, G, 0, 0))
  else ((l2).bind fun a10 => (xR G a10 fl_TreeMap_Entry_key).bind fun r12 => if gC G o 10 = true then cB (hF_J4_compare V G nx o l1 r12) fun y15 G16 c17 => if 0 ≤ y15 then (if y15 ≤ 0 then (some ((some a10), G16, 0, 0))
  else ((xR G16 a10 fl_TreeMap_Entry_right).bind fun r24 => if r24 = none then ((xR G16 a10 fl_TreeMap_Entry_parent).bind fun r27 => hL_J4_getCeilingEntry_68 V o V.2.2.2.2 G16 (nx + c17) r27 (some a10))
  else ((xR G16 a10 fl_TreeMap_Entry_right).bind fun r29 => hB_J4_getCeilingEntry_102 V o (hL_J4_getCeilingEntry_5 V o n) G16 (nx + c17) l1 r29)))
  else ((xR G16 a10 fl_TreeMap_Entry_left).bind fun r31 => if r31 = none then (some ((some a10), G16, 0, 0))
  else ((xR G16 a10 fl_TreeMap_Entry_left).bind fun r34 => hB_J4_getCeilingEntry_102 V o (hL_J4_getCeilingEntry_5 V o n) G16 (nx + c17) l1 r34)) else none)

def hF_J4_getCeilingEntry (V : HEn) (G : Gh) (nx : Nat) (o : Nat) (a0 : Option Nat) : HO (Option Nat) :=
  (xR G o fl_TreeMap_root).bind fun r136 => hL_J4_getCeilingEntry_5 V o V.2.2.2.2 G nx a0 r136

/-! J4_getHigherEntry -/
def hB_J4_getHigherEntry_93 (V : HEn) (o : Nat)  (G : Gh) (nx : Nat) (l4 : Option Nat) : HO (Option Nat) :=
  some (l4, G, 0, 0)

def hL_J4_getHigherEntry_64 (V : HEn) (o : Nat)  : Nat → Gh → Nat → Option Nat → Option Nat → HO (Option Nat)
  | 0, _, _, _, _ => none
  | n + 1, G, nx, l4, l5 =>
  if l4 = none then (hB_J4_getHigherEntry_93 V o G nx l4)
  else ((l4).bind fun a2 => (xR G a2 fl_TreeMap_Entry_right).bind fun r4 => if l5 = r4 then ((xR G a2 fl_TreeMap_Entry_parent).bind fun r7 => (hL_J4_getHigherEntry_64 V o n) G nx r7 (some a2))
  else (hB_J4_getHigherEntry_93 V o G nx (some a2)))

def hB_J4_getHigherEntry_96 (V : HEn) (o : Nat) (k5 : Gh → Nat → Option Nat → Option Nat → HO (Option Nat)) (G : Gh) (nx : Nat) (l1 : Option Nat) (l2 : Option Nat) : HO (Option Nat) :=
  k5 G nx l1 l2

def hL_J4_getHigherEntry_5 (V : HEn) (o : Nat)  : Nat → Gh → Nat → Option Nat → Option Nat → HO (Option Nat)
  | 0, _, _, _, _ => none
  | n + 1, G, nx, l1, l2 =>
  if l2 = none then (some (none, G, 0, 0))
  else ((l2).bind fun a10 => (xR G a10 fl_TreeMap_Entry_key).bind fun r12 => if gC G o 10 = true then cB (hF_J4_compare V G nx o l1 r12) fun y15 G16 c17 => if 0 ≤ y15 then ((xR G16 a10 fl_TreeMap_Entry_right).bind fun r23 => if r23 = none then ((xR G16 a10 fl_TreeMap_Entry_parent).bind fun r26 => hL_J4_getHigherEntry_64 V o V.2.2.2.2 G16 (nx + c17) r26 (some a10))
  else ((xR G16 a10 fl_TreeMap_Entry_right).bind fun r28 => hB_J4_getHigherEntry_96 V o (hL_J4_getHigherEntry_5 V o n) G16 (nx + c17) l1 r28))
  else ((xR G16 a10 fl_TreeMap_Entry_left).bind fun r30 => if r30 = none then (some ((some a10), G16, 0, 0))
  else ((xR G16 a10 fl_TreeMap_Entry_left).bind fun r33 => hB_J4_getHigherEntry_96 V o (hL_J4_getHigherEntry_5 V o n) G16 (nx + c17) l1 r33)) else none)

def hF_J4_getHigherEntry (V : HEn) (G : Gh) (nx : Nat) (o : Nat) (a0 : Option Nat) : HO (Option Nat) :=
  (xR G o fl_TreeMap_root).bind fun r135 => hL_J4_getHigherEntry_5 V o V.2.2.2.2 G nx a0 r135

/-! J44_tooHigh -/
def hB_J44_tooHigh_35 (V : HEn) (o : Nat)  (G : Gh) (nx : Nat)  : HO (Int32) :=
  some (1, G, 0, 0)

def hB_J44_tooHigh_37 (V : HEn) (o : Nat)  (G : Gh) (nx : Nat)  : HO (Int32) :=
  some (0, G, 0, 0)

def hF_J44_tooHigh (V : HEn) (G : Gh) (nx : Nat) (o : Nat) (a0 : Option Nat) : HO (Int32) :=
  (xI G o fl_TreeMap_NavigableSubMap_toEnd).bind fun v101 => if v101 = 0 then ((xR G o fl_TreeMap_NavigableSubMap_m).bind fun r104 => (xR G o fl_TreeMap_NavigableSubMap_hi).bind fun r106 => (r104).bind fun a108 => if gC G a108 10 = true then cB (hF_J4_compare V G nx a108 a0 r106) fun y111 G112 c113 => if 0 < y111 then (hB_J44_tooHigh_35 V o G112 (nx + c113))
  else (if y111 = 0 then ((xI G112 o fl_TreeMap_NavigableSubMap_hiInclusive).bind fun v120 => if v120 = 0 then (hB_J44_tooHigh_35 V o G112 (nx + c113))
  else (hB_J44_tooHigh_37 V o G112 (nx + c113)))
  else (hB_J44_tooHigh_37 V o G112 (nx + c113))) else none)
  else (hB_J44_tooHigh_37 V o G nx)

/-! J44_absLowest -/
def hB_J44_absLowest_70 (V : HEn) (o : Nat)  (G : Gh) (nx : Nat) (s0 : Option Nat) : HO (Option Nat) :=
  some (s0, G, 0, 0)

def hB_J44_absLowest_65 (V : HEn) (o : Nat)  (G : Gh) (nx : Nat)  : HO (Option Nat) :=
  hB_J44_absLowest_70 V o G nx none

def hB_J44_absLowest_49 (V : HEn) (o : Nat)  (G : Gh) (nx : Nat) (s0 : Option Nat) : HO (Option Nat) :=
  if s0 = none then (hB_J44_absLowest_65 V o G nx)
  else ((s0).bind fun a2 => (xR G a2 fl_TreeMap_Entry_key).bind fun r4 => if gC G o 16 = true then cB (hF_J44_tooHigh V G nx o r4) fun y7 G8 c9 => if y7 = 0 then (hB_J44_absLowest_70 V o G8 (nx + c9) (some a2))
  else (hB_J44_absLowest_65 V o G8 (nx + c9)) else none)

def hF_J44_absLowest (V : HEn) (G : Gh) (nx : Nat) (o : Nat) : HO (Option Nat) :=
  (xI G o fl_TreeMap_NavigableSubMap_fromStart).bind fun v115 => if v115 = 0 then ((xI G o fl_TreeMap_NavigableSubMap_loInclusive).bind fun v118 => if v118 = 0 then ((xR G o fl_TreeMap_NavigableSubMap_m).bind fun r121 => (xR G o fl_TreeMap_NavigableSubMap_lo).bind fun r123 => (r121).bind fun a125 => if gC G a125 10 = true then cB (hF_J4_getHigherEntry V G nx a125 r123) fun r128 G129 c130 => hB_J44_absLowest_49 V o G129 (nx + c130) r128 else none)
  else ((xR G o fl_TreeMap_NavigableSubMap_m).bind fun r135 => (xR G o fl_TreeMap_NavigableSubMap_lo).bind fun r137 => (r135).bind fun a139 => if gC G a139 10 = true then cB (hF_J4_getCeilingEntry V G nx a139 r137) fun r142 G143 c144 => hB_J44_absLowest_49 V o G143 (nx + c144) r142 else none))
  else ((xR G o fl_TreeMap_NavigableSubMap_m).bind fun r149 => (r149).bind fun a151 => if gC G a151 10 = true then cB (hF_J4_getFirstEntry V G nx a151) fun r154 G155 c156 => hB_J44_absLowest_49 V o G155 (nx + c156) r154 else none)

/-! J44_absHighFence -/
def hB_J44_absHighFence_43 (V : HEn) (o : Nat)  (G : Gh) (nx : Nat) (s0 : Option Nat) : HO (Option Nat) :=
  some (s0, G, 0, 0)

def hF_J44_absHighFence (V : HEn) (G : Gh) (nx : Nat) (o : Nat) : HO (Option Nat) :=
  (xI G o fl_TreeMap_NavigableSubMap_toEnd).bind fun v101 => if v101 = 0 then ((xI G o fl_TreeMap_NavigableSubMap_hiInclusive).bind fun v104 => if v104 = 0 then ((xR G o fl_TreeMap_NavigableSubMap_m).bind fun r107 => (xR G o fl_TreeMap_NavigableSubMap_hi).bind fun r109 => (r107).bind fun a111 => if gC G a111 10 = true then cB (hF_J4_getCeilingEntry V G nx a111 r109) fun r114 G115 c116 => hB_J44_absHighFence_43 V o G115 (nx + c116) r114 else none)
  else ((xR G o fl_TreeMap_NavigableSubMap_m).bind fun r121 => (xR G o fl_TreeMap_NavigableSubMap_hi).bind fun r123 => (r121).bind fun a125 => if gC G a125 10 = true then cB (hF_J4_getHigherEntry V G nx a125 r123) fun r128 G129 c130 => hB_J44_absHighFence_43 V o G129 (nx + c130) r128 else none))
  else (hB_J44_absHighFence_43 V o G nx none)

/-! J20_init -/
def hF_J20_init (V : HEn) (G : Gh) (nx : Nat) (o : Nat) (a0 : Option Nat) (a1 : Option Nat) (a2 : Option Nat) : HO (Unit) :=
  (xF V.1 G o fl_TreeMap_NavigableSubMap_SubMapIterator_this_0 (va_rf a0)).bind fun G101 => (a0).bind fun a103 => (xR G101 a103 fl_TreeMap_NavigableSubMap_m).bind fun r105 => (r105).bind fun a107 => (xI G101 a107 fl_TreeMap_modCount).bind fun v109 => (xF V.1 G101 o fl_TreeMap_NavigableSubMap_SubMapIterator_expectedModCount (.int v109)).bind fun G111 => (xF V.1 G111 o fl_TreeMap_NavigableSubMap_SubMapIterator_lastReturned (va_rf none)).bind fun G113 => (xF V.1 G113 o fl_TreeMap_NavigableSubMap_SubMapIterator_next (va_rf a1)).bind fun G115 => if a2 = none then (none)
  else ((a2).bind fun a118 => (xR G115 a118 fl_TreeMap_Entry_key).bind fun r120 => (xF V.1 G115 o fl_TreeMap_NavigableSubMap_SubMapIterator_fenceKey (va_rf r120)).bind fun G122 => some ((), G122, 0, 0))

/-! J21_init -/
def hF_J21_init (V : HEn) (G : Gh) (nx : Nat) (o : Nat) (a0 : Option Nat) (a1 : Option Nat) (a2 : Option Nat) : HO (Unit) :=
  cB (hF_J20_init V G nx o a0 a1 a2) fun y101 G102 c103 => some ((), G102, 0, 0)

/-! J19_iterator -/
def hF_J19_iterator (V : HEn) (G : Gh) (nx : Nat) (o : Nat) : HO (Option Nat) :=
  tick 1 5 ((xR (gset G nx (.inr (18, [.null, .null, .null, .int 0, .null]))) o fl_TreeMap_AscendingSubMap_AscendingEntrySetView_this_0).bind fun r103 => (xR (gset G nx (.inr (18, [.null, .null, .null, .int 0, .null]))) o fl_TreeMap_AscendingSubMap_AscendingEntrySetView_this_0).bind fun r105 => (r105).bind fun a107 => if gC (gset G nx (.inr (18, [.null, .null, .null, .int 0, .null]))) a107 16 = true then cB (hF_J44_absLowest V (gset G nx (.inr (18, [.null, .null, .null, .int 0, .null]))) (nx + 1) a107) fun r110 G111 c112 => (xR G111 o fl_TreeMap_AscendingSubMap_AscendingEntrySetView_this_0).bind fun r117 => (r117).bind fun a119 => if gC G111 a119 16 = true then cB (hF_J44_absHighFence V G111 ((nx + 1) + c112) a119) fun r122 G123 c124 => cB (hF_J21_init V G123 (((nx + 1) + c112) + c124) nx r103 r110 r122) fun y129 G130 c131 => some ((some nx), G130, 0, 0) else none else none)

/-! J20_hasNext -/
def hB_J20_hasNext_26 (V : HEn) (o : Nat)  (G : Gh) (nx : Nat) (s0 : Int32) : HO (Int32) :=
  if vp_nar .boolean s0 = s0 then some (s0, G, 0, 0) else none

def hB_J20_hasNext_25 (V : HEn) (o : Nat)  (G : Gh) (nx : Nat)  : HO (Int32) :=
  hB_J20_hasNext_26 V o G nx 0

def hF_J20_hasNext (V : HEn) (G : Gh) (nx : Nat) (o : Nat) : HO (Int32) :=
  (xR G o fl_TreeMap_NavigableSubMap_SubMapIterator_next).bind fun r102 => if r102 = none then (hB_J20_hasNext_25 V o G nx)
  else ((xR G o fl_TreeMap_NavigableSubMap_SubMapIterator_next).bind fun r105 => (r105).bind fun a107 => (xR G a107 fl_TreeMap_Entry_key).bind fun r109 => (xR G o fl_TreeMap_NavigableSubMap_SubMapIterator_fenceKey).bind fun r111 => if r109 = r111 then (hB_J20_hasNext_25 V o G nx)
  else (hB_J20_hasNext_26 V o G nx 1))

/-! J20_nextEntry -/
def hB_J20_nextEntry_20 (V : HEn) (o : Nat)  (G : Gh) (nx : Nat)  : HO (Option Nat) :=
  none

def hF_J20_nextEntry (V : HEn) (G : Gh) (nx : Nat) (o : Nat) : HO (Option Nat) :=
  (xR G o fl_TreeMap_NavigableSubMap_SubMapIterator_next).bind fun r101 => if r101 = none then (hB_J20_nextEntry_20 V o G nx)
  else ((r101).bind fun a104 => (xR G a104 fl_TreeMap_Entry_key).bind fun r106 => (xR G o fl_TreeMap_NavigableSubMap_SubMapIterator_fenceKey).bind fun r108 => if r106 = r108 then (hB_J20_nextEntry_20 V o G nx)
  else ((xR G o fl_TreeMap_NavigableSubMap_SubMapIterator_this_0).bind fun r111 => (r111).bind fun a113 => (xR G a113 fl_TreeMap_NavigableSubMap_m).bind fun r115 => (r115).bind fun a117 => (xI G a117 fl_TreeMap_modCount).bind fun v119 => (xI G o fl_TreeMap_NavigableSubMap_SubMapIterator_expectedModCount).bind fun v121 => if v119 = v121 then (cB (hF_J4_successor V G nx (some a104)) fun r124 G125 c126 => (xF V.1 G125 o fl_TreeMap_NavigableSubMap_SubMapIterator_next (va_rf r124)).bind fun G131 => (xF V.1 G131 o fl_TreeMap_NavigableSubMap_SubMapIterator_lastReturned (va_rf (some a104))).bind fun G133 => some ((some a104), G133, 0, 0))
  else (none)))

/-! J21_next_2 -/
def hF_J21_next_2 (V : HEn) (G : Gh) (nx : Nat) (o : Nat) : HO (Option Nat) :=
  if gC G o 18 = true then cB (hF_J20_nextEntry V G nx o) fun r102 G103 c104 => some (r102, G103, 0, 0) else none

/-! J21_next -/
def hF_J21_next (V : HEn) (G : Gh) (nx : Nat) (o : Nat) : HO (Option Nat) :=
  if gC G o 18 = true then cB (hF_J21_next_2 V G nx o) fun r102 G103 c104 => some (r102, G103, 0, 0) else none

/-! J18_size -/
def hB_J18_size_109 (V : HEn) (o : Nat)  (G : Gh) (nx : Nat)  : HO (Int32) :=
  (xI G o fl_TreeMap_NavigableSubMap_EntrySetView_size).bind fun v1 => some (v1, G, 0, 0)

def hL_J18_size_80 (V : HEn) (o : Nat)  : Nat → Gh → Nat → Option Nat → HO (Int32)
  | 0, _, _, _ => none
  | n + 1, G, nx, l1 =>
  (l1).bind fun a3 => if gC G a3 18 = true then cB (hF_J20_hasNext V G nx a3) fun y6 G7 c8 => if y6 = 0 then (hB_J18_size_109 V o G7 (nx + c8))
  else ((xI G7 o fl_TreeMap_NavigableSubMap_EntrySetView_size).bind fun v14 => (xF V.1 G7 o fl_TreeMap_NavigableSubMap_EntrySetView_size (.int (v14 + 1))).bind fun G16 => if gC G16 a3 18 = true then cB (hF_J21_next V G16 (nx + c8) a3) fun r19 G20 c21 => (hL_J18_size_80 V o n) G20 ((nx + c8) + c21) (some a3) else none) else none

def hB_J18_size_56 (V : HEn) (o : Nat)  (G : Gh) (nx : Nat)  : HO (Int32) :=
  (xR G o fl_TreeMap_NavigableSubMap_EntrySetView_this_0).bind fun r26 => (r26).bind fun a28 => (xR G a28 fl_TreeMap_NavigableSubMap_m).bind fun r30 => (r30).bind fun a32 => (xI G a32 fl_TreeMap_modCount).bind fun v34 => (xF V.1 G o fl_TreeMap_NavigableSubMap_EntrySetView_sizeModCount (.int v34)).bind fun G36 => (xF V.1 G36 o fl_TreeMap_NavigableSubMap_EntrySetView_size (.int 0)).bind fun G38 => if gC G38 o 17 = true then cB (hF_J19_iterator V G38 nx o) fun r41 G42 c43 => hL_J18_size_80 V o V.2.2.2.2 G42 (nx + c43) r41 else none

def hB_J18_size_31 (V : HEn) (o : Nat)  (G : Gh) (nx : Nat)  : HO (Int32) :=
  (xI G o fl_TreeMap_NavigableSubMap_EntrySetView_size).bind fun v48 => if v48 = (-1) then (hB_J18_size_56 V o G nx)
  else ((xI G o fl_TreeMap_NavigableSubMap_EntrySetView_sizeModCount).bind fun v51 => (xR G o fl_TreeMap_NavigableSubMap_EntrySetView_this_0).bind fun r53 => (r53).bind fun a55 => (xR G a55 fl_TreeMap_NavigableSubMap_m).bind fun r57 => (r57).bind fun a59 => (xI G a59 fl_TreeMap_modCount).bind fun v61 => if v51 = v61 then (hB_J18_size_109 V o G nx)
  else (hB_J18_size_56 V o G nx))

def hF_J18_size (V : HEn) (G : Gh) (nx : Nat) (o : Nat) : HO (Int32) :=
  (xR G o fl_TreeMap_NavigableSubMap_EntrySetView_this_0).bind fun r164 => (r164).bind fun a166 => (xI G a166 fl_TreeMap_NavigableSubMap_fromStart).bind fun v168 => if v168 = 0 then (hB_J18_size_31 V o G nx)
  else ((xR G o fl_TreeMap_NavigableSubMap_EntrySetView_this_0).bind fun r171 => (r171).bind fun a173 => (xI G a173 fl_TreeMap_NavigableSubMap_toEnd).bind fun v175 => if v175 = 0 then (hB_J18_size_31 V o G nx)
  else ((xR G o fl_TreeMap_NavigableSubMap_EntrySetView_this_0).bind fun r178 => (r178).bind fun a180 => (xR G a180 fl_TreeMap_NavigableSubMap_m).bind fun r182 => (r182).bind fun a184 => if gC G a184 10 = true then cB (hF_J4_size V G nx a184) fun y187 G188 c189 => some (y187, G188, 0, 0) else none))

/-! J44_size -/
def hD_J44_size_28 (V : HEn) (G : Gh) (nx : Nat) (b : Nat)  : HO (Int32) :=
  if gC G b 12 = true then hF_J43_size V G nx b  else (if gC G b 14 = true then hF_J29_size V G nx b  else (if gC G b 17 = true then hF_J18_size V G nx b  else (none)))

def hB_J44_size_33 (V : HEn) (o : Nat)  (G : Gh) (nx : Nat) (s0 : Int32) : HO (Int32) :=
  some (s0, G, 0, 0)

def hB_J44_size_24 (V : HEn) (o : Nat)  (G : Gh) (nx : Nat)  : HO (Int32) :=
  if gC G o 16 = true then cB (hF_J45_entrySet V G nx o) fun r2 G3 c4 => (r2).bind fun a9 => cB (hD_J44_size_28 V G3 (nx + c4) a9) fun y11 G12 c13 => hB_J44_size_33 V o G12 ((nx + c4) + c13) y11 else none

def hF_J44_size (V : HEn) (G : Gh) (nx : Nat) (o : Nat) : HO (Int32) :=
  (xI G o fl_TreeMap_NavigableSubMap_fromStart).bind fun v118 => if v118 = 0 then (hB_J44_size_24 V o G nx)
  else ((xI G o fl_TreeMap_NavigableSubMap_toEnd).bind fun v121 => if v121 = 0 then (hB_J44_size_24 V o G nx)
  else ((xR G o fl_TreeMap_NavigableSubMap_m).bind fun r124 => (r124).bind fun a126 => if gC G a126 10 = true then cB (hF_J4_size V G nx a126) fun y129 G130 c131 => hB_J44_size_33 V o G130 (nx + c131) y129 else none))

/-! X0_comes -/
def hB_X0_comes_17 (V : HEn) (o : Nat)  (G : Gh) (nx : Nat)  : HO (Int32) :=
  some ((-1), G, 0, 0)

def hB_X0_comes_72 (V : HEn) (o : Nat)  (G : Gh) (nx : Nat) (s0 : Option Nat) (s1 : Option Nat) (l1 : Int32) (l2 : Int32) : HO (Int32) :=
  cB (hF_J23_valueOf V G nx l2) fun r1 G2 c3 => (s0).bind fun a8 => if gC G2 a8 10 = true then cB (hF_J4_put V G2 (nx + c3) a8 s1 r1) fun r11 G12 c13 => if gC G12 o 0 = true then cB (hF_X0_goesThrough V G12 ((nx + c3) + c13) o) fun y19 G20 c21 => (xR G20 o fl_RunWatch_now).bind fun r26 => (r26).bind fun a28 => (xR G20 a28 fl_RunWatch_Desk_rows).bind fun r30 => cB (hF_J23_valueOf V G20 (((nx + c3) + c13) + c21) l1) fun r32 G33 c34 => (r30).bind fun a39 => if gC G33 a39 10 = true then cB (hF_J4_headMap V G33 ((((nx + c3) + c13) + c21) + c34) a39 r32) fun r42 G43 c44 => (r42).bind fun a49 => if gC G43 a49 16 = true then cB (hF_J44_size V G43 (((((nx + c3) + c13) + c21) + c34) + c44) a49) fun y52 G53 c54 => some (y52, G53, 0, 0) else none else none else none else none

def hF_X0_comes (V : HEn) (G : Gh) (nx : Nat) (o : Nat) (a0 : Int32) (a1 : Int32) : HO (Int32) :=
  cB (hF_X0_isIn V G nx a0 0 99) fun y159 G160 c161 => if y159 = 0 then (hB_X0_comes_17 V o G160 (nx + c161))
  else (cB (hF_X0_isSign V G160 (nx + c161) a1) fun y167 G168 c169 => if y167 = 0 then (hB_X0_comes_17 V o G168 ((nx + c161) + c169))
  else ((xR G168 o fl_RunWatch_now).bind fun r175 => (r175).bind fun a177 => (xR G168 a177 fl_RunWatch_Desk_rows).bind fun r179 => cB (hF_J23_valueOf V G168 ((nx + c161) + c169) a0) fun r181 G182 c183 => (r179).bind fun a188 => if gC G182 a188 10 = true then cB (hF_J4_containsKey V G182 (((nx + c161) + c169) + c183) a188 r181) fun y191 G192 c193 => if y191 = 0 then ((xR G192 o fl_RunWatch_now).bind fun r199 => (r199).bind fun a201 => (xR G192 a201 fl_RunWatch_Desk_rows).bind fun r203 => (r203).bind fun a205 => if gC G192 a205 10 = true then cB (hF_J4_size V G192 ((((nx + c161) + c169) + c183) + c193) a205) fun y208 G209 c210 => if y208 = 40 then (some ((-3), G209, 0, 0))
  else (if gC G209 o 0 = true then cB (hF_X0_notes V G209 (((((nx + c161) + c169) + c183) + c193) + c210) o) fun y217 G218 c219 => (xR G218 o fl_RunWatch_now).bind fun r224 => (r224).bind fun a226 => (xR G218 a226 fl_RunWatch_Desk_rows).bind fun r228 => cB (hF_J23_valueOf V G218 ((((((nx + c161) + c169) + c183) + c193) + c210) + c219) a0) fun r230 G231 c232 => hB_X0_comes_72 V o G231 (((((((nx + c161) + c169) + c183) + c193) + c210) + c219) + c232) r228 r230 a0 a1 else none) else none)
  else (some ((-2), G192, 0, 0)) else none))

/-! X0_common -/
def hB_X0_common_17 (V : HEn) (rec : Gh → Nat → Int64 → Int64 → HO (Int64))  (G : Gh) (nx : Nat) (s0 : Int64) : HO (Int64) :=
  some (s0, G, 0, 0)

def hF_X0_common (V : HEn) : Nat → Gh → Nat → Int64 → Int64 → HO (Int64)
  | 0, _, _, _, _ => none
  | n + 1, G, nx, a0, a1 =>
  if (lg_cmp a1 0) = 0 then (hB_X0_common_17 V (hF_X0_common V n) G nx a0)
  else (if ¬ a1 = 0 then cB ((hF_X0_common V n) G nx a1 (a0 - a0 / a1 * a1)) fun y103 G104 c105 => hB_X0_common_17 V (hF_X0_common V n) G104 (nx + c105) y103 else none)

/-! J39_init -/
def hF_J39_init (V : HEn) (G : Gh) (nx : Nat) (o : Nat) : HO (Unit) :=
  cB (hF_J3_init V G nx o) fun y101 G102 c103 => (xF V.1 G102 o fl_HashMap_loadFactor (.float 1061158912)).bind fun G108 => some ((), G108, 0, 0)

/-! J46_init -/
def hF_J46_init (V : HEn) (G : Gh) (nx : Nat) (o : Nat) : HO (Unit) :=
  cB (hF_J39_init V G nx o) fun y101 G102 c103 => (xF V.1 G102 o fl_LinkedHashMap_putMode (.int 0)).bind fun G108 => (xF V.1 G108 o fl_LinkedHashMap_accessOrder (.int 0)).bind fun G110 => some ((), G110, 0, 0)

/-! J23_hashCode_2 -/
def hF_J23_hashCode_2 (V : HEn) (G : Gh) (nx : Nat) (a0 : Int32) : HO (Int32) :=
  some (a0, G, 0, 0)

/-! J23_hashCode -/
def hF_J23_hashCode (V : HEn) (G : Gh) (nx : Nat) (o : Nat) : HO (Int32) :=
  (xI G o fl_Integer_value).bind fun v101 => cB (hF_J23_hashCode_2 V G nx v101) fun y103 G104 c105 => some (y103, G104, 0, 0)

/-! J7_isLatin1 -/
def hB_J7_isLatin1_18 (V : HEn) (o : Nat)  (G : Gh) (nx : Nat) (s0 : Int32) : HO (Int32) :=
  if vp_nar .boolean s0 = s0 then some (s0, G, 0, 0) else none

def hB_J7_isLatin1_17 (V : HEn) (o : Nat)  (G : Gh) (nx : Nat)  : HO (Int32) :=
  hB_J7_isLatin1_18 V o G nx 0

def hF_J7_isLatin1 (V : HEn) (G : Gh) (nx : Nat) (o : Nat) : HO (Int32) :=
  if (1 : Int32) = 0 then (hB_J7_isLatin1_17 V o G nx)
  else ((xI G o fl_String_coder).bind fun v103 => if v103 = 0 then (hB_J7_isLatin1_18 V o G nx 1)
  else (hB_J7_isLatin1_17 V o G nx))

/-! J9_signedHashCode -/
def hL_J9_signedHashCode_8 (V : HEn)  : Nat → Gh → Nat → Int32 → Option Nat → Int32 → Int32 → HO (Int32)
  | 0, _, _, _, _, _, _ => none
  | n + 1, G, nx, l0, l1, l4, l5 =>
  if l4 ≤ l5 then (some (l0, G, 0, 0))
  else ((l1).bind fun a2 => (rdI G (V.2.1 1) a2 l5).bind fun v4 => (hL_J9_signedHashCode_8 V  n) G nx ((31 * l0) + (v4 &&& 255)) (some a2) l4 (l5 + 1))

def hF_J9_signedHashCode (V : HEn) (G : Gh) (nx : Nat) (a0 : Int32) (a1 : Option Nat) (a2 : Int32) (a3 : Int32) : HO (Int32) :=
  hL_J9_signedHashCode_8 V V.2.2.2.2 G nx a0 a1 (a2 + a3) a2

/-! J9_vectorizedHashCode -/
def hF_J9_vectorizedHashCode (V : HEn) (G : Gh) (nx : Nat) (a0 : Option Nat) (a1 : Int32) (a2 : Int32) (a3 : Int32) (a4 : Int32) : HO (Int32) :=
  if a4 = 4 then ((a0).bind fun a102 => (aln G (V.2.1 1) a102).bind fun n104 => cB (hF_J9_signedHashCode V G nx a3 (some a102) a1 a2) fun y106 G107 c108 => some (y106, G107, 0, 0))
  else (if a4 = 5 then (none)
  else (if a4 = 6 then (none)
  else (if a4 = 7 then (none)
  else (if a4 = 8 then (none)
  else (if a4 = 9 then (none)
  else (if a4 = 10 then (none)
  else (none)))))))

/-! J12_hashCode -/
def hB_J12_hashCode_51 (V : HEn)  (G : Gh) (nx : Nat) (s0 : Int32) : HO (Int32) :=
  some (s0, G, 0, 0)

def hF_J12_hashCode (V : HEn) (G : Gh) (nx : Nat) (a0 : Option Nat) : HO (Int32) :=
  (a0).bind fun a101 => (aln G (V.2.1 1) a101).bind fun n103 => if n103 = 0 then (hB_J12_hashCode_51 V G nx 0)
  else (if n103 = 1 then ((rdI G (V.2.1 1) a101 0).bind fun v107 => hB_J12_hashCode_51 V G nx (v107 &&& 255))
  else ((aln G (V.2.1 1) a101).bind fun n109 => cB (hF_J9_vectorizedHashCode V G nx (some a101) 0 n109 0 4) fun y111 G112 c113 => hB_J12_hashCode_51 V G112 (nx + c113) y111))

/-! J7_hashCode -/
def hB_J7_hashCode_58 (V : HEn) (o : Nat)  (G : Gh) (nx : Nat) (l1 : Int32) : HO (Int32) :=
  some (l1, G, 0, 0)

def hF_J7_hashCode (V : HEn) (G : Gh) (nx : Nat) (o : Nat) : HO (Int32) :=
  (xI G o fl_String_hash).bind fun v101 => if v101 = 0 then ((xI G o fl_String_hashIsZero).bind fun v104 => if v104 = 0 then (if gC G o 25 = true then cB (hF_J7_isLatin1 V G nx o) fun y108 G109 c110 => if y108 = 0 then (none)
  else ((xR G109 o fl_String_value).bind fun r116 => cB (hF_J12_hashCode V G109 (nx + c110) r116) fun y118 G119 c120 => if y118 = 0 then ((xF V.1 G119 o fl_String_hashIsZero (.int 1)).bind fun G126 => hB_J7_hashCode_58 V o G126 ((nx + c110) + c120) y118)
  else ((xF V.1 G119 o fl_String_hash (.int y118)).bind fun G128 => hB_J7_hashCode_58 V o G128 ((nx + c110) + c120) y118)) else none)
  else (hB_J7_hashCode_58 V o G nx v101))
  else (hB_J7_hashCode_58 V o G nx v101)

/-! J39_hash -/
def hD_J39_hash_9 (V : HEn) (G : Gh) (nx : Nat) (b : Nat)  : HO (Int32) :=
  if gC G b 26 = true then hF_J23_hashCode V G nx b  else (if gC G b 25 = true then hF_J7_hashCode V G nx b  else (none))

def hB_J39_hash_19 (V : HEn)  (G : Gh) (nx : Nat) (s0 : Int32) : HO (Int32) :=
  some (s0, G, 0, 0)

def hF_J39_hash (V : HEn) (G : Gh) (nx : Nat) (a0 : Option Nat) : HO (Int32) :=
  if a0 = none then (hB_J39_hash_19 V G nx 0)
  else ((a0).bind fun a102 => cB (hD_J39_hash_9 V G nx a102) fun y104 G105 c106 => hB_J39_hash_19 V G105 (nx + c106) (y104 ^^^ ((y104.toUInt32 >>> ((16 : Int32).toUInt32 &&& Int32.toUInt32 31)).toInt32)))

/-! J23_equals -/
def hB_J23_equals_26 (V : HEn) (o : Nat)  (G : Gh) (nx : Nat) (s0 : Int32) : HO (Int32) :=
  if vp_nar .boolean s0 = s0 then some (s0, G, 0, 0) else none

def hF_J23_equals (V : HEn) (G : Gh) (nx : Nat) (o : Nat) (a0 : Option Nat) : HO (Int32) :=
  (gin G a0 [26] []).bind fun v102 => if v102 = 0 then (some (0, G, 0, 0))
  else ((xI G o fl_Integer_value).bind fun v105 => if gok G a0 [26] = true then (a0).bind fun a108 => if gC G a108 26 = true then cB (hF_J23_intValue V G nx a108) fun y111 G112 c113 => if v105 = y111 then (hB_J23_equals_26 V o G112 (nx + c113) 1)
  else (hB_J23_equals_26 V o G112 (nx + c113) 0) else none else none)

/-! J12_equals -/
def hL_J12_equals_9 (V : HEn)  : Nat → Gh → Nat → Option Nat → Option Nat → Int32 → HO (Int32)
  | 0, _, _, _, _, _ => none
  | n + 1, G, nx, l0, l1, l2 =>
  (l0).bind fun a1 => (aln G (V.2.1 1) a1).bind fun n3 => if n3 ≤ l2 then (some (1, G, 0, 0))
  else ((rdI G (V.2.1 1) a1 l2).bind fun v6 => (l1).bind fun a8 => (rdI G (V.2.1 1) a8 l2).bind fun v10 => if v6 = v10 then ((hL_J12_equals_9 V  n) G nx (some a1) (some a8) (l2 + 1))
  else (some (0, G, 0, 0)))

def hF_J12_equals (V : HEn) (G : Gh) (nx : Nat) (a0 : Option Nat) (a1 : Option Nat) : HO (Int32) :=
  (a0).bind fun a113 => (aln G (V.2.1 1) a113).bind fun n115 => (a1).bind fun a117 => (aln G (V.2.1 1) a117).bind fun n119 => if n115 = n119 then (hL_J12_equals_9 V V.2.2.2.2 G nx (some a113) (some a117) 0)
  else (some (0, G, 0, 0))

/-! J7_equals -/
def hB_J7_equals_55 (V : HEn) (o : Nat)  (G : Gh) (nx : Nat) (s0 : Int32) : HO (Int32) :=
  if vp_nar .boolean s0 = s0 then some (s0, G, 0, 0) else none

def hB_J7_equals_54 (V : HEn) (o : Nat)  (G : Gh) (nx : Nat)  : HO (Int32) :=
  hB_J7_equals_55 V o G nx 0

def hB_J7_equals_36 (V : HEn) (o : Nat)  (G : Gh) (nx : Nat) (l2 : Option Nat) : HO (Int32) :=
  (xR G o fl_String_value).bind fun r2 => (l2).bind fun a4 => (xR G a4 fl_String_value).bind fun r6 => cB (hF_J12_equals V G nx r2 r6) fun y8 G9 c10 => if y8 = 0 then (hB_J7_equals_54 V o G9 (nx + c10))
  else (hB_J7_equals_55 V o G9 (nx + c10) 1)

def hF_J7_equals (V : HEn) (G : Gh) (nx : Nat) (o : Nat) (a0 : Option Nat) : HO (Int32) :=
  if (some o) = a0 then (some (1, G, 0, 0))
  else ((gin G a0 [25] []).bind fun v117 => if v117 = 0 then (hB_J7_equals_54 V o G nx)
  else (if gok G a0 [25] = true then if (1 : Int32) = 0 then (hB_J7_equals_36 V o G nx a0)
  else ((xI G o fl_String_coder).bind fun v122 => (a0).bind fun a124 => (xI G a124 fl_String_coder).bind fun v126 => if v122 = v126 then (hB_J7_equals_36 V o G nx (some a124))
  else (hB_J7_equals_54 V o G nx)) else none))

/-! J42_root -/
def hL_J42_root_2 (V : HEn) (o : Nat)  : Nat → Gh → Nat → Option Nat → HO (Option Nat)
  | 0, _, _, _ => none
  | n + 1, G, nx, l1 =>
  (l1).bind fun a1 => (xR G a1 fl_HashMap_TreeNode_parent).bind fun r3 => if r3 = none then (some ((some a1), G, 0, 0))
  else ((hL_J42_root_2 V o n) G nx r3)

def hF_J42_root (V : HEn) (G : Gh) (nx : Nat) (o : Nat) : HO (Option Nat) :=
  hL_J42_root_2 V o V.2.2.2.2 G nx (some o)

/-! J39_comparableClassFor -/
def hF_J39_comparableClassFor (V : HEn) (G : Gh) (nx : Nat) (a0 : Option Nat) : HO (Option Nat) :=
  (gin G a0 [26, 25] []).bind fun v101 => if v101 = 0 then (some (none, G, 0, 0))
  else ((a0).bind fun a104 => if gC G a104 25 = true then if (some (V.2.2.2.1 21)) = (some (V.2.2.2.1 21)) then (some ((some (V.2.2.2.1 21)), G, 0, 0))
  else (none) else none)

/-! J7_coder -/
def hB_J7_coder_14 (V : HEn) (o : Nat)  (G : Gh) (nx : Nat) (s0 : Int32) : HO (Int32) :=
  if vp_nar .byte s0 = s0 then some (s0, G, 0, 0) else none

def hF_J7_coder (V : HEn) (G : Gh) (nx : Nat) (o : Nat) : HO (Int32) :=
  if (1 : Int32) = 0 then (hB_J7_coder_14 V o G nx 1)
  else ((xI G o fl_String_coder).bind fun v103 => hB_J7_coder_14 V o G nx v103)

/-! J9_mismatch -/
def hL_J9_mismatch_49 (V : HEn)  : Nat → Gh → Nat → Option Nat → Option Nat → Int32 → Int32 → HO (Int32)
  | 0, _, _, _, _, _, _ => none
  | n + 1, G, nx, l0, l1, l2, l3 =>
  if l2 ≤ l3 then (some ((-1), G, 0, 0))
  else ((l0).bind fun a2 => (rdI G (V.2.1 1) a2 l3).bind fun v4 => (l1).bind fun a6 => (rdI G (V.2.1 1) a6 l3).bind fun v8 => if v4 = v8 then ((hL_J9_mismatch_49 V  n) G nx (some a2) (some a6) l2 (l3 + 1))
  else (some (l3, G, 0, 0)))

def hF_J9_mismatch (V : HEn) (G : Gh) (nx : Nat) (a0 : Option Nat) (a1 : Option Nat) (a2 : Int32) : HO (Int32) :=
  (a0).bind fun a => (aln G (V.2.1 1) a).bind fun n => (a1).bind fun b => (aln G (V.2.1 1) b).bind fun k => if a2 ≤ n ∧ a2 ≤ k then hL_J9_mismatch_49 V V.2.2.2.2 G nx (some a) (some b) a2 0 else none

/-! J12_getChar -/
def hF_J12_getChar (V : HEn) (G : Gh) (nx : Nat) (a0 : Option Nat) (a1 : Int32) : HO (Int32) :=
  (a0).bind fun a101 => (rdI G (V.2.1 1) a101 a1).bind fun v103 => if vp_nar .char (((v103 &&& 255).toUInt32 % 65536).toInt32) = (((v103 &&& 255).toUInt32 % 65536).toInt32) then some ((((v103 &&& 255).toUInt32 % 65536).toInt32), G, 0, 0) else none

/-! J12_compareTo_2 -/
def hB_J12_compareTo_2_40 (V : HEn)  (G : Gh) (nx : Nat) (s0 : Int32) : HO (Int32) :=
  some (s0, G, 0, 0)

def hF_J12_compareTo_2 (V : HEn) (G : Gh) (nx : Nat) (a0 : Option Nat) (a1 : Option Nat) (a2 : Int32) (a3 : Int32) : HO (Int32) :=
  cB (hF_J9_mismatch V G nx a0 a1 (if a3 < a2 then a3 else a2)) fun y101 G102 c103 => if 0 ≤ y101 then (cB (hF_J12_getChar V G102 (nx + c103) a0 y101) fun y109 G110 c111 => cB (hF_J12_getChar V G110 ((nx + c103) + c111) a1 y101) fun y116 G117 c118 => hB_J12_compareTo_2_40 V G117 (((nx + c103) + c111) + c118) (y109 - y116))
  else (hB_J12_compareTo_2_40 V G102 (nx + c103) (a2 - a3))

/-! J12_compareTo -/
def hF_J12_compareTo (V : HEn) (G : Gh) (nx : Nat) (a0 : Option Nat) (a1 : Option Nat) : HO (Int32) :=
  (a0).bind fun a101 => (aln G (V.2.1 1) a101).bind fun n103 => (a1).bind fun a105 => (aln G (V.2.1 1) a105).bind fun n107 => cB (hF_J12_compareTo_2 V G nx (some a101) (some a105) n103 n107) fun y109 G110 c111 => some (y109, G110, 0, 0)

/-! J12_compareToUTF16 -/
def hF_J12_compareToUTF16 (V : HEn) (G : Gh) (nx : Nat) (a0 : Option Nat) (a1 : Option Nat) : HO (Int32) :=
  none

/-! J7_compareTo_2 -/
def hF_J7_compareTo_2 (V : HEn) (G : Gh) (nx : Nat) (o : Nat) (a0 : Option Nat) : HO (Int32) :=
  (xR G o fl_String_value).bind fun r101 => (a0).bind fun a103 => (xR G a103 fl_String_value).bind fun r105 => if gC G o 25 = true then cB (hF_J7_coder V G nx o) fun y108 G109 c110 => if gC G109 a103 25 = true then cB (hF_J7_coder V G109 (nx + c110) a103) fun y116 G117 c118 => if y108 = y116 then (if y108 = 0 then (cB (hF_J12_compareTo V G117 ((nx + c110) + c118) r101 r105) fun y125 G126 c127 => some (y125, G126, 0, 0))
  else (none))
  else (if y108 = 0 then (cB (hF_J12_compareToUTF16 V G117 ((nx + c110) + c118) r101 r105) fun y133 G134 c135 => some (y133, G134, 0, 0))
  else (none)) else none else none

/-! J7_compareTo -/
def hF_J7_compareTo (V : HEn) (G : Gh) (nx : Nat) (o : Nat) (a0 : Option Nat) : HO (Int32) :=
  if gok G a0 [25] = true then if gC G o 25 = true then cB (hF_J7_compareTo_2 V G nx o a0) fun y103 G104 c105 => some (y103, G104, 0, 0) else none else none

/-! J39_compareComparables -/
def hB_J39_compareComparables_26 (V : HEn)  (G : Gh) (nx : Nat) (s0 : Int32) : HO (Int32) :=
  some (s0, G, 0, 0)

def hB_J39_compareComparables_12 (V : HEn)  (G : Gh) (nx : Nat)  : HO (Int32) :=
  hB_J39_compareComparables_26 V G nx 0

def hF_J39_compareComparables (V : HEn) (G : Gh) (nx : Nat) (a0 : Option Nat) (a1 : Option Nat) (a2 : Option Nat) : HO (Int32) :=
  if a2 = none then (hB_J39_compareComparables_12 V G nx)
  else ((a2).bind fun a102 => if gC G a102 25 = true then if (some (V.2.2.2.1 21)) = a0 then (if gok G a1 [26, 25] = true then (a1).bind fun a107 => if gC G a107 25 = true then cB (hF_J7_compareTo V G nx a107 (some a102)) fun y110 G111 c112 => hB_J39_compareComparables_26 V G111 (nx + c112) y110 else none else none)
  else (hB_J39_compareComparables_12 V G nx) else none)

/-! J42_find -/
def hB_J42_find_74 (V : HEn) (o : Nat)  (G : Gh) (nx : Nat) (l4 : Option Nat) : HO (Option Nat) :=
  some (l4, G, 0, 0)

def hB_J42_find_144 (V : HEn) (o : Nat)  (G : Gh) (nx : Nat) (l9 : Option Nat) : HO (Option Nat) :=
  none

def hB_J42_find_165 (V : HEn) (o : Nat) (k3 : Gh → Nat → Int32 → Option Nat → Option Nat → Option Nat → HO (Option Nat)) (G : Gh) (nx : Nat) (l1 : Int32) (l2 : Option Nat) (l3 : Option Nat) (l4 : Option Nat) : HO (Option Nat) :=
  if l4 = none then (some (none, G, 0, 0))
  else (k3 G nx l1 l2 l3 l4)

def hB_J42_find_139 (V : HEn) (o : Nat) (k3 : Gh → Nat → Int32 → Option Nat → Option Nat → Option Nat → HO (Option Nat)) (G : Gh) (nx : Nat) (s0 : Option Nat) (l1 : Int32) (l2 : Option Nat) (l3 : Option Nat) : HO (Option Nat) :=
  hB_J42_find_165 V o k3 G nx l1 l2 l3 s0

def hB_J42_find_114 (V : HEn) (o : Nat) (k3 : Gh → Nat → Int32 → Option Nat → Option Nat → Option Nat → HO (Option Nat)) (G : Gh) (nx : Nat) (l1 : Int32) (l2 : Option Nat) (l3 : Option Nat) (l7 : Option Nat) (l8 : Option Nat) (l9 : Option Nat) : HO (Option Nat) :=
  cB (hF_J39_compareComparables V G nx l3 l2 l7) fun y2 G3 c4 => if y2 = 0 then (hB_J42_find_144 V o G3 (nx + c4) l9)
  else (if 0 ≤ y2 then (hB_J42_find_139 V o k3 G3 (nx + c4) l9 l1 l2 l3)
  else (hB_J42_find_139 V o k3 G3 (nx + c4) l8 l1 l2 l3))

def hB_J42_find_77 (V : HEn) (o : Nat) (k3 : Gh → Nat → Int32 → Option Nat → Option Nat → Option Nat → HO (Option Nat)) (G : Gh) (nx : Nat) (l1 : Int32) (l2 : Option Nat) (l3 : Option Nat) (l7 : Option Nat) (l8 : Option Nat) (l9 : Option Nat) : HO (Option Nat) :=
  if l8 = none then (hB_J42_find_165 V o k3 G nx l1 l2 l3 l9)
  else (if l9 = none then (hB_J42_find_165 V o k3 G nx l1 l2 l3 l8)
  else (if l3 = none then (cB (hF_J39_comparableClassFor V G nx l2) fun r14 G15 c16 => if r14 = none then (hB_J42_find_144 V o G15 (nx + c16) l9)
  else (hB_J42_find_114 V o k3 G15 (nx + c16) l1 l2 r14 l7 l8 l9))
  else (hB_J42_find_114 V o k3 G nx l1 l2 l3 l7 l8 l9)))

def hL_J42_find_3 (V : HEn) (o : Nat)  : Nat → Gh → Nat → Int32 → Option Nat → Option Nat → Option Nat → HO (Option Nat)
  | 0, _, _, _, _, _, _ => none
  | n + 1, G, nx, l1, l2, l3, l4 =>
  (l4).bind fun a22 => (xR G a22 fl_HashMap_TreeNode_left).bind fun r24 => (xR G a22 fl_HashMap_TreeNode_right).bind fun r26 => (xI G a22 fl_HashMap_Node_hash).bind fun v28 => if v28 ≤ l1 then (if l1 ≤ v28 then ((xR G a22 fl_HashMap_Node_key).bind fun r32 => if r32 = l2 then (hB_J42_find_74 V o G nx (some a22))
  else (if l2 = none then (hB_J42_find_77 V o (hL_J42_find_3 V o n) G nx l1 l2 l3 r32 r24 r26)
  else ((l2).bind fun a36 => if gC G a36 25 = true then cB (hF_J7_equals V G nx a36 r32) fun y39 G40 c41 => if y39 = 0 then (hB_J42_find_77 V o (hL_J42_find_3 V o n) G40 (nx + c41) l1 (some a36) l3 r32 r24 r26)
  else (hB_J42_find_74 V o G40 (nx + c41) (some a22)) else none)))
  else (hB_J42_find_165 V o (hL_J42_find_3 V o n) G nx l1 l2 l3 r26))
  else (hB_J42_find_165 V o (hL_J42_find_3 V o n) G nx l1 l2 l3 r24)

def hF_J42_find (V : HEn) (G : Gh) (nx : Nat) (o : Nat) (a0 : Int32) (a1 : Option Nat) (a2 : Option Nat) : HO (Option Nat) :=
  hL_J42_find_3 V o V.2.2.2.2 G nx a0 a1 a2 (some o)

/-! J42_getTreeNode -/
def hB_J42_getTreeNode_15 (V : HEn) (o : Nat)  (G : Gh) (nx : Nat) (s0 : Option Nat) (l1 : Int32) (l2 : Option Nat) : HO (Option Nat) :=
  (s0).bind fun a1 => if gC G a1 21 = true then cB (hF_J42_find V G nx a1 l1 l2 none) fun r4 G5 c6 => some (r4, G5, 0, 0) else none

def hF_J42_getTreeNode (V : HEn) (G : Gh) (nx : Nat) (o : Nat) (a0 : Int32) (a1 : Option Nat) : HO (Option Nat) :=
  (xR G o fl_HashMap_TreeNode_parent).bind fun r111 => if r111 = none then (hB_J42_getTreeNode_15 V o G nx (some o) a0 a1)
  else (if gC G o 21 = true then cB (hF_J42_root V G nx o) fun r115 G116 c117 => hB_J42_getTreeNode_15 V o G116 (nx + c117) r115 a0 a1 else none)

/-! J39_getNode -/
def hD_J39_getNode_128 (V : HEn) (G : Gh) (nx : Nat) (b : Nat) (x0 : Option Nat) : HO (Int32) :=
  if gC G b 26 = true then hF_J23_equals V G nx b x0 else (if gC G b 25 = true then hF_J7_equals V G nx b x0 else (none))

def hD_J39_getNode_63 (V : HEn) (G : Gh) (nx : Nat) (b : Nat) (x0 : Option Nat) : HO (Int32) :=
  if gC G b 26 = true then hF_J23_equals V G nx b x0 else (if gC G b 25 = true then hF_J7_equals V G nx b x0 else (none))

def hB_J39_getNode_69 (V : HEn) (o : Nat)  (G : Gh) (nx : Nat) (l3 : Option Nat) : HO (Option Nat) :=
  some (l3, G, 0, 0)

def hB_J39_getNode_148 (V : HEn) (o : Nat)  (G : Gh) (nx : Nat)  : HO (Option Nat) :=
  some (none, G, 0, 0)

def hB_J39_getNode_137 (V : HEn) (o : Nat) (k99 : Gh → Nat → Option Nat → Option Nat → Int32 → HO (Option Nat)) (G : Gh) (nx : Nat) (l1 : Option Nat) (l4 : Option Nat) (l6 : Int32) : HO (Option Nat) :=
  (l4).bind fun a1 => (xR G a1 fl_HashMap_Node_next).bind fun r3 => if r3 = none then (hB_J39_getNode_148 V o G nx)
  else (k99 G nx l1 r3 l6)

def hB_J39_getNode_134 (V : HEn) (o : Nat)  (G : Gh) (nx : Nat) (l4 : Option Nat) : HO (Option Nat) :=
  some (l4, G, 0, 0)

def hL_J39_getNode_99 (V : HEn) (o : Nat)  : Nat → Gh → Nat → Option Nat → Option Nat → Int32 → HO (Option Nat)
  | 0, _, _, _, _, _ => none
  | n + 1, G, nx, l1, l4, l6 =>
  (l4).bind fun a6 => (xI G a6 fl_HashMap_Node_hash).bind fun v8 => if v8 = l6 then ((xR G a6 fl_HashMap_Node_key).bind fun r11 => if r11 = l1 then (hB_J39_getNode_134 V o G nx (some a6))
  else (if l1 = none then (hB_J39_getNode_137 V o (hL_J39_getNode_99 V o n) G nx l1 (some a6) l6)
  else ((l1).bind fun a15 => cB (hD_J39_getNode_128 V G nx a15 r11) fun y17 G18 c19 => if y17 = 0 then (hB_J39_getNode_137 V o (hL_J39_getNode_99 V o n) G18 (nx + c19) (some a15) (some a6) l6)
  else (hB_J39_getNode_134 V o G18 (nx + c19) (some a6)))))
  else (hB_J39_getNode_137 V o (hL_J39_getNode_99 V o n) G nx l1 (some a6) l6)

def hB_J39_getNode_71 (V : HEn) (o : Nat)  (G : Gh) (nx : Nat) (l1 : Option Nat) (l3 : Option Nat) (l6 : Int32) : HO (Option Nat) :=
  (l3).bind fun a25 => (xR G a25 fl_HashMap_Node_next).bind fun r27 => if r27 = none then (hB_J39_getNode_148 V o G nx)
  else ((gin G (some a25) [21] [20, 23]).bind fun v30 => if v30 = 0 then (hL_J39_getNode_99 V o V.2.2.2.2 G nx l1 r27 l6)
  else (if gok G (some a25) [21] = true then if gC G a25 21 = true then cB (hF_J42_getTreeNode V G nx a25 l6 l1) fun r35 G36 c37 => some (r35, G36, 0, 0) else none else none))

def hF_J39_getNode (V : HEn) (G : Gh) (nx : Nat) (o : Nat) (a0 : Option Nat) : HO (Option Nat) :=
  (xR G o fl_HashMap_table).bind fun r142 => if r142 = none then (hB_J39_getNode_148 V o G nx)
  else ((r142).bind fun a145 => (aln G (V.2.1 4) a145).bind fun n147 => if n147 ≤ 0 then (hB_J39_getNode_148 V o G nx)
  else (cB (hF_J39_hash V G nx a0) fun y150 G151 c152 => (rdR G151 (V.2.1 4) a145 ((n147 - 1) &&& y150)).bind fun r157 => if r157 = none then (hB_J39_getNode_148 V o G151 (nx + c152))
  else ((r157).bind fun a160 => (xI G151 a160 fl_HashMap_Node_hash).bind fun v162 => if v162 = y150 then ((xR G151 a160 fl_HashMap_Node_key).bind fun r165 => if r165 = a0 then (hB_J39_getNode_69 V o G151 (nx + c152) (some a160))
  else (if a0 = none then (hB_J39_getNode_71 V o G151 (nx + c152) a0 (some a160) y150)
  else ((a0).bind fun a169 => cB (hD_J39_getNode_63 V G151 (nx + c152) a169 r165) fun y171 G172 c173 => if y171 = 0 then (hB_J39_getNode_71 V o G172 ((nx + c152) + c173) (some a169) (some a160) y150)
  else (hB_J39_getNode_69 V o G172 ((nx + c152) + c173) (some a160)))))
  else (hB_J39_getNode_71 V o G151 (nx + c152) a0 (some a160) y150))))

/-! J39_containsKey -/
def hB_J39_containsKey_13 (V : HEn) (o : Nat)  (G : Gh) (nx : Nat) (s0 : Int32) : HO (Int32) :=
  if vp_nar .boolean s0 = s0 then some (s0, G, 0, 0) else none

def hF_J39_containsKey (V : HEn) (G : Gh) (nx : Nat) (o : Nat) (a0 : Option Nat) : HO (Int32) :=
  if [19, 22].any (gC G o) = true then cB (hF_J39_getNode V G nx o a0) fun r103 G104 c105 => if r103 = none then (hB_J39_containsKey_13 V o G104 (nx + c105) 0)
  else (hB_J39_containsKey_13 V o G104 (nx + c105) 1) else none

/-! J40_init -/
def hF_J40_init (V : HEn) (G : Gh) (nx : Nat) (o : Nat) (a0 : Int32) (a1 : Option Nat) (a2 : Option Nat) (a3 : Option Nat) : HO (Unit) :=
  (xF V.1 G o fl_HashMap_Node_hash (.int a0)).bind fun G101 => (xF V.1 G101 o fl_HashMap_Node_key (va_rf a1)).bind fun G103 => (xF V.1 G103 o fl_HashMap_Node_value (va_rf a2)).bind fun G105 => (xF V.1 G105 o fl_HashMap_Node_next (va_rf a3)).bind fun G107 => some ((), G107, 0, 0)

/-! J39_replacementNode -/
def hF_J39_replacementNode (V : HEn) (G : Gh) (nx : Nat) (o : Nat) (a0 : Option Nat) (a1 : Option Nat) : HO (Option Nat) :=
  tick 1 4 ((a0).bind fun a103 => (xI (gset G nx (.inr (20, [.int 0, .null, .null, .null]))) a103 fl_HashMap_Node_hash).bind fun v105 => (xR (gset G nx (.inr (20, [.int 0, .null, .null, .null]))) a103 fl_HashMap_Node_key).bind fun r107 => (xR (gset G nx (.inr (20, [.int 0, .null, .null, .null]))) a103 fl_HashMap_Node_value).bind fun r109 => cB (hF_J40_init V (gset G nx (.inr (20, [.int 0, .null, .null, .null]))) (nx + 1) nx v105 r107 r109 a1) fun y111 G112 c113 => some ((some nx), G112, 0, 0))

/-! J41_init -/
def hF_J41_init (V : HEn) (G : Gh) (nx : Nat) (o : Nat) (a0 : Int32) (a1 : Option Nat) (a2 : Option Nat) (a3 : Option Nat) : HO (Unit) :=
  cB (hF_J40_init V G nx o a0 a1 a2 a3) fun y101 G102 c103 => some ((), G102, 0, 0)

/-! J46_transferLinks -/
def hB_J46_transferLinks_57 (V : HEn) (o : Nat)  (G : Gh) (nx : Nat)  : HO (Unit) :=
  some ((), G, 0, 0)

def hB_J46_transferLinks_38 (V : HEn) (o : Nat)  (G : Gh) (nx : Nat) (l2 : Option Nat) (l4 : Option Nat) : HO (Unit) :=
  if l4 = none then ((xF V.1 G o fl_LinkedHashMap_tail (va_rf l2)).bind fun G2 => hB_J46_transferLinks_57 V o G2 nx)
  else ((l4).bind fun a4 => (xF V.1 G a4 fl_LinkedHashMap_Entry_before (va_rf l2)).bind fun G6 => hB_J46_transferLinks_57 V o G6 nx)

def hF_J46_transferLinks (V : HEn) (G : Gh) (nx : Nat) (o : Nat) (a0 : Option Nat) (a1 : Option Nat) : HO (Unit) :=
  (a0).bind fun a108 => (xR G a108 fl_LinkedHashMap_Entry_before).bind fun r110 => (a1).bind fun a112 => (xF V.1 G a112 fl_LinkedHashMap_Entry_before (va_rf r110)).bind fun G114 => (xR G114 a108 fl_LinkedHashMap_Entry_after).bind fun r116 => (xF V.1 G114 a112 fl_LinkedHashMap_Entry_after (va_rf r116)).bind fun G118 => if r110 = none then ((xF V.1 G118 o fl_LinkedHashMap_head (va_rf (some a112))).bind fun G121 => hB_J46_transferLinks_38 V o G121 nx (some a112) r116)
  else ((r110).bind fun a123 => (xF V.1 G118 a123 fl_LinkedHashMap_Entry_after (va_rf (some a112))).bind fun G125 => hB_J46_transferLinks_38 V o G125 nx (some a112) r116)

/-! J46_replacementNode -/
def hF_J46_replacementNode (V : HEn) (G : Gh) (nx : Nat) (o : Nat) (a0 : Option Nat) (a1 : Option Nat) : HO (Option Nat) :=
  if gok G a0 [23] = true then tick 1 6 ((a0).bind fun a104 => (xI (gset G nx (.inr (23, [.int 0, .null, .null, .null, .null, .null]))) a104 fl_HashMap_Node_hash).bind fun v106 => (xR (gset G nx (.inr (23, [.int 0, .null, .null, .null, .null, .null]))) a104 fl_HashMap_Node_key).bind fun r108 => (xR (gset G nx (.inr (23, [.int 0, .null, .null, .null, .null, .null]))) a104 fl_HashMap_Node_value).bind fun r110 => cB (hF_J41_init V (gset G nx (.inr (23, [.int 0, .null, .null, .null, .null, .null]))) (nx + 1) nx v106 r108 r110 a1) fun y112 G113 c114 => if gC G113 o 22 = true then cB (hF_J46_transferLinks V G113 ((nx + 1) + c114) o (some a104) (some nx)) fun y120 G121 c122 => some ((some nx), G121, 0, 0) else none) else none

/-! J42_untreeify -/
def hD_J42_untreeify_16 (V : HEn) (G : Gh) (nx : Nat) (b : Nat) (x0 : Option Nat) (x1 : Option Nat) : HO (Option Nat) :=
  if gC G b 19 = true then hF_J39_replacementNode V G nx b x0 x1 else (if gC G b 22 = true then hF_J46_replacementNode V G nx b x0 x1 else (none))

def hB_J42_untreeify_37 (V : HEn) (o : Nat) (k7 : Gh → Nat → Option Nat → Option Nat → Option Nat → Option Nat → HO (Option Nat)) (G : Gh) (nx : Nat) (l1 : Option Nat) (l2 : Option Nat) (l4 : Option Nat) (l5 : Option Nat) : HO (Option Nat) :=
  (l4).bind fun a1 => (xR G a1 fl_HashMap_Node_next).bind fun r3 => k7 G nx l1 l2 l5 r3

def hL_J42_untreeify_7 (V : HEn) (o : Nat)  : Nat → Gh → Nat → Option Nat → Option Nat → Option Nat → Option Nat → HO (Option Nat)
  | 0, _, _, _, _, _, _ => none
  | n + 1, G, nx, l1, l2, l3, l4 =>
  if l4 = none then (some (l2, G, 0, 0))
  else ((l1).bind fun a6 => cB (hD_J42_untreeify_16 V G nx a6 l4 none) fun r8 G9 c10 => if l3 = none then (hB_J42_untreeify_37 V o (hL_J42_untreeify_7 V o n) G9 (nx + c10) (some a6) r8 l4 r8)
  else ((l3).bind fun a16 => (xF V.1 G9 a16 fl_HashMap_Node_next (va_rf r8)).bind fun G18 => hB_J42_untreeify_37 V o (hL_J42_untreeify_7 V o n) G18 (nx + c10) (some a6) l2 l4 r8))

def hF_J42_untreeify (V : HEn) (G : Gh) (nx : Nat) (o : Nat) (a0 : Option Nat) : HO (Option Nat) :=
  hL_J42_untreeify_7 V o V.2.2.2.2 G nx a0 none none (some o)

/-! J42_rotateLeft -/
def hB_J42_rotateLeft_89 (V : HEn)  (G : Gh) (nx : Nat) (l0 : Option Nat) : HO (Option Nat) :=
  some (l0, G, 0, 0)

def hB_J42_rotateLeft_79 (V : HEn)  (G : Gh) (nx : Nat) (l0 : Option Nat) (l1 : Option Nat) (l2 : Option Nat) : HO (Option Nat) :=
  (l2).bind fun a1 => (xF V.1 G a1 fl_HashMap_TreeNode_left (va_rf l1)).bind fun G3 => (l1).bind fun a5 => (xF V.1 G3 a5 fl_HashMap_TreeNode_parent (va_rf (some a1))).bind fun G7 => hB_J42_rotateLeft_89 V G7 nx l0

def hB_J42_rotateLeft_34 (V : HEn)  (G : Gh) (nx : Nat) (l0 : Option Nat) (l1 : Option Nat) (l2 : Option Nat) : HO (Option Nat) :=
  (l1).bind fun a9 => (xR G a9 fl_HashMap_TreeNode_parent).bind fun r11 => (l2).bind fun a13 => (xF V.1 G a13 fl_HashMap_TreeNode_parent (va_rf r11)).bind fun G15 => if r11 = none then ((xF V.1 G15 a13 fl_HashMap_TreeNode_red (.int 0)).bind fun G18 => hB_J42_rotateLeft_79 V G18 nx (some a13) (some a9) (some a13))
  else ((r11).bind fun a20 => (xR G15 a20 fl_HashMap_TreeNode_left).bind fun r22 => if r22 = (some a9) then ((xF V.1 G15 a20 fl_HashMap_TreeNode_left (va_rf (some a13))).bind fun G25 => hB_J42_rotateLeft_79 V G25 nx l0 (some a9) (some a13))
  else ((xF V.1 G15 a20 fl_HashMap_TreeNode_right (va_rf (some a13))).bind fun G27 => hB_J42_rotateLeft_79 V G27 nx l0 (some a9) (some a13)))

def hF_J42_rotateLeft (V : HEn) (G : Gh) (nx : Nat) (a0 : Option Nat) (a1 : Option Nat) : HO (Option Nat) :=
  if a1 = none then (hB_J42_rotateLeft_89 V G nx a0)
  else ((a1).bind fun a130 => (xR G a130 fl_HashMap_TreeNode_right).bind fun r132 => if r132 = none then (hB_J42_rotateLeft_89 V G nx a0)
  else ((r132).bind fun a135 => (xR G a135 fl_HashMap_TreeNode_left).bind fun r137 => (xF V.1 G a130 fl_HashMap_TreeNode_right (va_rf r137)).bind fun G139 => if r137 = none then (hB_J42_rotateLeft_34 V G139 nx a0 (some a130) (some a135))
  else ((r137).bind fun a142 => (xF V.1 G139 a142 fl_HashMap_TreeNode_parent (va_rf (some a130))).bind fun G144 => hB_J42_rotateLeft_34 V G144 nx a0 (some a130) (some a135))))

/-! J42_rotateRight -/
def hB_J42_rotateRight_89 (V : HEn)  (G : Gh) (nx : Nat) (l0 : Option Nat) : HO (Option Nat) :=
  some (l0, G, 0, 0)

def hB_J42_rotateRight_79 (V : HEn)  (G : Gh) (nx : Nat) (l0 : Option Nat) (l1 : Option Nat) (l2 : Option Nat) : HO (Option Nat) :=
  (l2).bind fun a1 => (xF V.1 G a1 fl_HashMap_TreeNode_right (va_rf l1)).bind fun G3 => (l1).bind fun a5 => (xF V.1 G3 a5 fl_HashMap_TreeNode_parent (va_rf (some a1))).bind fun G7 => hB_J42_rotateRight_89 V G7 nx l0

def hB_J42_rotateRight_34 (V : HEn)  (G : Gh) (nx : Nat) (l0 : Option Nat) (l1 : Option Nat) (l2 : Option Nat) : HO (Option Nat) :=
  (l1).bind fun a9 => (xR G a9 fl_HashMap_TreeNode_parent).bind fun r11 => (l2).bind fun a13 => (xF V.1 G a13 fl_HashMap_TreeNode_parent (va_rf r11)).bind fun G15 => if r11 = none then ((xF V.1 G15 a13 fl_HashMap_TreeNode_red (.int 0)).bind fun G18 => hB_J42_rotateRight_79 V G18 nx (some a13) (some a9) (some a13))
  else ((r11).bind fun a20 => (xR G15 a20 fl_HashMap_TreeNode_right).bind fun r22 => if r22 = (some a9) then ((xF V.1 G15 a20 fl_HashMap_TreeNode_right (va_rf (some a13))).bind fun G25 => hB_J42_rotateRight_79 V G25 nx l0 (some a9) (some a13))
  else ((xF V.1 G15 a20 fl_HashMap_TreeNode_left (va_rf (some a13))).bind fun G27 => hB_J42_rotateRight_79 V G27 nx l0 (some a9) (some a13)))

def hF_J42_rotateRight (V : HEn) (G : Gh) (nx : Nat) (a0 : Option Nat) (a1 : Option Nat) : HO (Option Nat) :=
  if a1 = none then (hB_J42_rotateRight_89 V G nx a0)
  else ((a1).bind fun a130 => (xR G a130 fl_HashMap_TreeNode_left).bind fun r132 => if r132 = none then (hB_J42_rotateRight_89 V G nx a0)
  else ((r132).bind fun a135 => (xR G a135 fl_HashMap_TreeNode_right).bind fun r137 => (xF V.1 G a130 fl_HashMap_TreeNode_left (va_rf r137)).bind fun G139 => if r137 = none then (hB_J42_rotateRight_34 V G139 nx a0 (some a130) (some a135))
  else ((r137).bind fun a142 => (xF V.1 G139 a142 fl_HashMap_TreeNode_parent (va_rf (some a130))).bind fun G144 => hB_J42_rotateRight_34 V G144 nx a0 (some a130) (some a135))))

/-! J42_balanceInsertion -/
def hB_J42_balanceInsertion_37 (V : HEn)  (G : Gh) (nx : Nat) (l0 : Option Nat) : HO (Option Nat) :=
  some (l0, G, 0, 0)

def hB_J42_balanceInsertion_218 (V : HEn) (k5 : Gh → Nat → Option Nat → Option Nat → HO (Option Nat)) (G : Gh) (nx : Nat) (l0 : Option Nat) (l1 : Option Nat) (l2 : Option Nat) (l3 : Option Nat) : HO (Option Nat) :=
  if l2 = none then (k5 G nx l0 l1)
  else ((l2).bind fun a2 => (xF V.1 G a2 fl_HashMap_TreeNode_red (.int 0)).bind fun G4 => if l3 = none then (k5 G4 nx l0 l1)
  else ((l3).bind fun a7 => (xF V.1 G4 a7 fl_HashMap_TreeNode_red (.int 1)).bind fun G9 => cB (hF_J42_rotateLeft V G9 nx l0 (some a7)) fun r11 G12 c13 => k5 G12 (nx + c13) r11 l1))

def hB_J42_balanceInsertion_217 (V : HEn) (k5 : Gh → Nat → Option Nat → Option Nat → HO (Option Nat)) (G : Gh) (nx : Nat) (s0 : Option Nat) (l0 : Option Nat) (l1 : Option Nat) (l2 : Option Nat) : HO (Option Nat) :=
  hB_J42_balanceInsertion_218 V k5 G nx l0 l1 l2 s0

def hB_J42_balanceInsertion_184 (V : HEn) (k5 : Gh → Nat → Option Nat → Option Nat → HO (Option Nat)) (G : Gh) (nx : Nat) (l0 : Option Nat) (l1 : Option Nat) (l2 : Option Nat) (l3 : Option Nat) : HO (Option Nat) :=
  (l2).bind fun a18 => (xR G a18 fl_HashMap_TreeNode_left).bind fun r20 => if l1 = r20 then (cB (hF_J42_rotateRight V G nx l0 (some a18)) fun r23 G24 c25 => (xR G24 a18 fl_HashMap_TreeNode_parent).bind fun r30 => if r30 = none then (hB_J42_balanceInsertion_217 V k5 G24 (nx + c25) none r23 (some a18) r30)
  else ((r30).bind fun a33 => (xR G24 a33 fl_HashMap_TreeNode_parent).bind fun r35 => hB_J42_balanceInsertion_217 V k5 G24 (nx + c25) r35 r23 (some a18) (some a33)))
  else (hB_J42_balanceInsertion_218 V k5 G nx l0 l1 (some a18) l3)

def hB_J42_balanceInsertion_123 (V : HEn) (k5 : Gh → Nat → Option Nat → Option Nat → HO (Option Nat)) (G : Gh) (nx : Nat) (l0 : Option Nat) (l1 : Option Nat) (l2 : Option Nat) (l3 : Option Nat) : HO (Option Nat) :=
  if l2 = none then (k5 G nx l0 l1)
  else ((l2).bind fun a38 => (xF V.1 G a38 fl_HashMap_TreeNode_red (.int 0)).bind fun G40 => if l3 = none then (k5 G40 nx l0 l1)
  else ((l3).bind fun a43 => (xF V.1 G40 a43 fl_HashMap_TreeNode_red (.int 1)).bind fun G45 => cB (hF_J42_rotateRight V G45 nx l0 (some a43)) fun r47 G48 c49 => k5 G48 (nx + c49) r47 l1))

def hB_J42_balanceInsertion_122 (V : HEn) (k5 : Gh → Nat → Option Nat → Option Nat → HO (Option Nat)) (G : Gh) (nx : Nat) (s0 : Option Nat) (l0 : Option Nat) (l1 : Option Nat) (l2 : Option Nat) : HO (Option Nat) :=
  hB_J42_balanceInsertion_123 V k5 G nx l0 l1 l2 s0

def hB_J42_balanceInsertion_89 (V : HEn) (k5 : Gh → Nat → Option Nat → Option Nat → HO (Option Nat)) (G : Gh) (nx : Nat) (l0 : Option Nat) (l1 : Option Nat) (l2 : Option Nat) (l3 : Option Nat) : HO (Option Nat) :=
  (l2).bind fun a54 => (xR G a54 fl_HashMap_TreeNode_right).bind fun r56 => if l1 = r56 then (cB (hF_J42_rotateLeft V G nx l0 (some a54)) fun r59 G60 c61 => (xR G60 a54 fl_HashMap_TreeNode_parent).bind fun r66 => if r66 = none then (hB_J42_balanceInsertion_122 V k5 G60 (nx + c61) none r59 (some a54) r66)
  else ((r66).bind fun a69 => (xR G60 a69 fl_HashMap_TreeNode_parent).bind fun r71 => hB_J42_balanceInsertion_122 V k5 G60 (nx + c61) r71 r59 (some a54) (some a69)))
  else (hB_J42_balanceInsertion_123 V k5 G nx l0 l1 (some a54) l3)

def hL_J42_balanceInsertion_5 (V : HEn)  : Nat → Gh → Nat → Option Nat → Option Nat → HO (Option Nat)
  | 0, _, _, _, _ => none
  | n + 1, G, nx, l0, l1 =>
  (l1).bind fun a73 => (xR G a73 fl_HashMap_TreeNode_parent).bind fun r75 => if r75 = none then ((xF V.1 G a73 fl_HashMap_TreeNode_red (.int 0)).bind fun G78 => some ((some a73), G78, 0, 0))
  else ((r75).bind fun a80 => (xI G a80 fl_HashMap_TreeNode_red).bind fun v82 => if v82 = 0 then (hB_J42_balanceInsertion_37 V G nx l0)
  else ((xR G a80 fl_HashMap_TreeNode_parent).bind fun r85 => if r85 = none then (hB_J42_balanceInsertion_37 V G nx l0)
  else ((r85).bind fun a88 => (xR G a88 fl_HashMap_TreeNode_left).bind fun r90 => if (some a80) = r90 then ((xR G a88 fl_HashMap_TreeNode_right).bind fun r93 => if r93 = none then (hB_J42_balanceInsertion_89 V (hL_J42_balanceInsertion_5 V  n) G nx l0 (some a73) (some a80) (some a88))
  else ((r93).bind fun a96 => (xI G a96 fl_HashMap_TreeNode_red).bind fun v98 => if v98 = 0 then (hB_J42_balanceInsertion_89 V (hL_J42_balanceInsertion_5 V  n) G nx l0 (some a73) (some a80) (some a88))
  else ((xF V.1 G a96 fl_HashMap_TreeNode_red (.int 0)).bind fun G101 => (xF V.1 G101 a80 fl_HashMap_TreeNode_red (.int 0)).bind fun G103 => (xF V.1 G103 a88 fl_HashMap_TreeNode_red (.int 1)).bind fun G105 => (hL_J42_balanceInsertion_5 V  n) G105 nx l0 (some a88))))
  else (if r90 = none then (hB_J42_balanceInsertion_184 V (hL_J42_balanceInsertion_5 V  n) G nx l0 (some a73) (some a80) (some a88))
  else ((r90).bind fun a108 => (xI G a108 fl_HashMap_TreeNode_red).bind fun v110 => if v110 = 0 then (hB_J42_balanceInsertion_184 V (hL_J42_balanceInsertion_5 V  n) G nx l0 (some a73) (some a80) (some a88))
  else ((xF V.1 G a108 fl_HashMap_TreeNode_red (.int 0)).bind fun G113 => (xF V.1 G113 a80 fl_HashMap_TreeNode_red (.int 0)).bind fun G115 => (xF V.1 G115 a88 fl_HashMap_TreeNode_red (.int 1)).bind fun G117 => (hL_J42_balanceInsertion_5 V  n) G117 nx l0 (some a88)))))))

def hF_J42_balanceInsertion (V : HEn) (G : Gh) (nx : Nat) (a0 : Option Nat) (a1 : Option Nat) : HO (Option Nat) :=
  (a1).bind fun a219 => (xF V.1 G a219 fl_HashMap_TreeNode_red (.int 1)).bind fun G221 => hL_J42_balanceInsertion_5 V V.2.2.2.2 G221 nx a0 (some a219)

/-! J42_moveRootToFront -/
def hB_J42_moveRootToFront_123 (V : HEn)  (G : Gh) (nx : Nat)  : HO (Unit) :=
  some ((), G, 0, 0)

def hB_J42_moveRootToFront_102 (V : HEn)  (G : Gh) (nx : Nat) (l1 : Option Nat) : HO (Unit) :=
  if (1 : Int32) = 0 then (none)
  else (hB_J42_moveRootToFront_123 V G nx)

def hB_J42_moveRootToFront_91 (V : HEn)  (G : Gh) (nx : Nat) (l1 : Option Nat) (l4 : Option Nat) : HO (Unit) :=
  (l1).bind fun a2 => (xF V.1 G a2 fl_HashMap_Node_next (va_rf l4)).bind fun G4 => (xF V.1 G4 a2 fl_HashMap_TreeNode_prev (va_rf none)).bind fun G6 => hB_J42_moveRootToFront_102 V G6 nx (some a2)

def hB_J42_moveRootToFront_80 (V : HEn)  (G : Gh) (nx : Nat) (l1 : Option Nat) (l4 : Option Nat) : HO (Unit) :=
  if l4 = none then (hB_J42_moveRootToFront_91 V G nx l1 l4)
  else ((l4).bind fun a9 => (xF V.1 G a9 fl_HashMap_TreeNode_prev (va_rf l1)).bind fun G11 => hB_J42_moveRootToFront_91 V G11 nx l1 (some a9))

def hB_J42_moveRootToFront_68 (V : HEn)  (G : Gh) (nx : Nat) (l1 : Option Nat) (l4 : Option Nat) (l5 : Option Nat) (l6 : Option Nat) : HO (Unit) :=
  if l6 = none then (hB_J42_moveRootToFront_80 V G nx l1 l4)
  else ((l6).bind fun a14 => (xF V.1 G a14 fl_HashMap_Node_next (va_rf l5)).bind fun G16 => hB_J42_moveRootToFront_80 V G16 nx l1 l4)

def hF_J42_moveRootToFront (V : HEn) (G : Gh) (nx : Nat) (a0 : Option Nat) (a1 : Option Nat) : HO (Unit) :=
  if a1 = none then (hB_J42_moveRootToFront_123 V G nx)
  else (if a0 = none then (hB_J42_moveRootToFront_123 V G nx)
  else ((a0).bind fun a120 => (aln G (V.2.1 4) a120).bind fun n122 => if n122 ≤ 0 then (hB_J42_moveRootToFront_123 V G nx)
  else ((a1).bind fun a125 => (xI G a125 fl_HashMap_Node_hash).bind fun v127 => (rdR G (V.2.1 4) a120 ((n122 - 1) &&& v127)).bind fun r129 => if gok G r129 [21] = true then if (some a125) = r129 then (hB_J42_moveRootToFront_102 V G nx (some a125))
  else (if gokA G V.2.1 (some a125) [20, 23, 21] = true then (wrR V.1 G (V.2.1 4) a120 ((n122 - 1) &&& v127) (some a125)).bind fun G133 => (xR G133 a125 fl_HashMap_TreeNode_prev).bind fun r136 => (xR G133 a125 fl_HashMap_Node_next).bind fun r138 => if r138 = none then (hB_J42_moveRootToFront_68 V G133 nx (some a125) r129 r138 r136)
  else (if gok G133 r138 [21] = true then (r138).bind fun a142 => (xF V.1 G133 a142 fl_HashMap_TreeNode_prev (va_rf r136)).bind fun G144 => hB_J42_moveRootToFront_68 V G144 nx (some a125) r129 (some a142) r136 else none) else none) else none)))

/-! J42_treeify -/
def hB_J42_treeify_209 (V : HEn) (o : Nat) (k4 : Gh → Nat → Option Nat → Option Nat → Option Nat → HO (Unit)) (G : Gh) (nx : Nat) (l1 : Option Nat) (l2 : Option Nat) (l4 : Option Nat) : HO (Unit) :=
  k4 G nx l1 l2 l4

def hB_J42_treeify_197 (V : HEn) (o : Nat) (k4 : Gh → Nat → Option Nat → Option Nat → Option Nat → HO (Unit)) (G : Gh) (nx : Nat) (l1 : Option Nat) (l2 : Option Nat) (l3 : Option Nat) (l4 : Option Nat) : HO (Unit) :=
  cB (hF_J42_balanceInsertion V G nx l2 l3) fun r1 G2 c3 => hB_J42_treeify_209 V o k4 G2 (nx + c3) l1 r1 l4

def hB_J42_treeify_165 (V : HEn) (o : Nat) (k4 : Gh → Nat → Option Nat → Option Nat → Option Nat → HO (Unit)) (k64 : Gh → Nat → Option Nat → Option Nat → Option Nat → Option Nat → Option Nat → Int32 → Option Nat → Option Nat → HO (Unit)) (G : Gh) (nx : Nat) (s0 : Option Nat) (l1 : Option Nat) (l2 : Option Nat) (l3 : Option Nat) (l4 : Option Nat) (l5 : Option Nat) (l6 : Int32) (l7 : Option Nat) (l9 : Int32) (l12 : Option Nat) : HO (Unit) :=
  if s0 = none then ((l3).bind fun a9 => (xF V.1 G a9 fl_HashMap_TreeNode_parent (va_rf l12)).bind fun G11 => if 0 < l9 then ((l12).bind fun a14 => (xF V.1 G11 a14 fl_HashMap_TreeNode_right (va_rf (some a9))).bind fun G16 => hB_J42_treeify_197 V o k4 G16 nx l1 l2 (some a9) l4)
  else ((l12).bind fun a18 => (xF V.1 G11 a18 fl_HashMap_TreeNode_left (va_rf (some a9))).bind fun G20 => hB_J42_treeify_197 V o k4 G20 nx l1 l2 (some a9) l4))
  else (k64 G nx l1 l2 l3 l4 l5 l6 l7 s0)

def hB_J42_treeify_143 (V : HEn) (o : Nat) (k4 : Gh → Nat → Option Nat → Option Nat → Option Nat → HO (Unit)) (k64 : Gh → Nat → Option Nat → Option Nat → Option Nat → Option Nat → Option Nat → Int32 → Option Nat → Option Nat → HO (Unit)) (G : Gh) (nx : Nat) (l1 : Option Nat) (l2 : Option Nat) (l3 : Option Nat) (l4 : Option Nat) (l5 : Option Nat) (l6 : Int32) (l7 : Option Nat) (l8 : Option Nat) (l9 : Int32) : HO (Unit) :=
  if 0 < l9 then ((l8).bind fun a23 => (xR G a23 fl_HashMap_TreeNode_right).bind fun r25 => hB_J42_treeify_165 V o k4 k64 G nx r25 l1 l2 l3 l4 l5 l6 l7 l9 (some a23))
  else ((l8).bind fun a27 => (xR G a27 fl_HashMap_TreeNode_left).bind fun r29 => hB_J42_treeify_165 V o k4 k64 G nx r29 l1 l2 l3 l4 l5 l6 l7 l9 (some a27))

def hB_J42_treeify_134 (V : HEn) (o : Nat)  (G : Gh) (nx : Nat) (l5 : Option Nat) : HO (Unit) :=
  none

def hB_J42_treeify_119 (V : HEn) (o : Nat) (k4 : Gh → Nat → Option Nat → Option Nat → Option Nat → HO (Unit)) (k64 : Gh → Nat → Option Nat → Option Nat → Option Nat → Option Nat → Option Nat → Int32 → Option Nat → Option Nat → HO (Unit)) (G : Gh) (nx : Nat) (l1 : Option Nat) (l2 : Option Nat) (l3 : Option Nat) (l4 : Option Nat) (l5 : Option Nat) (l6 : Int32) (l7 : Option Nat) (l8 : Option Nat) (l11 : Option Nat) : HO (Unit) :=
  cB (hF_J39_compareComparables V G nx l7 l5 l11) fun y31 G32 c33 => if y31 = 0 then (hB_J42_treeify_134 V o G32 (nx + c33) l5)
  else (hB_J42_treeify_143 V o k4 k64 G32 (nx + c33) l1 l2 l3 l4 l5 l6 l7 l8 y31)

def hL_J42_treeify_64 (V : HEn) (o : Nat) (k4 : Gh → Nat → Option Nat → Option Nat → Option Nat → HO (Unit)) : Nat → Gh → Nat → Option Nat → Option Nat → Option Nat → Option Nat → Option Nat → Int32 → Option Nat → Option Nat → HO (Unit)
  | 0, _, _, _, _, _, _, _, _, _, _ => none
  | n + 1, G, nx, l1, l2, l3, l4, l5, l6, l7, l8 =>
  (l8).bind fun a39 => (xR G a39 fl_HashMap_Node_key).bind fun r41 => (xI G a39 fl_HashMap_Node_hash).bind fun v43 => if v43 ≤ l6 then (if l6 ≤ v43 then (if l7 = none then (cB (hF_J39_comparableClassFor V G nx l5) fun r48 G49 c50 => if r48 = none then (hB_J42_treeify_134 V o G49 (nx + c50) l5)
  else (hB_J42_treeify_119 V o k4 (hL_J42_treeify_64 V o k4 n) G49 (nx + c50) l1 l2 l3 l4 l5 l6 r48 (some a39) r41))
  else (hB_J42_treeify_119 V o k4 (hL_J42_treeify_64 V o k4 n) G nx l1 l2 l3 l4 l5 l6 l7 (some a39) r41))
  else (hB_J42_treeify_143 V o k4 (hL_J42_treeify_64 V o k4 n) G nx l1 l2 l3 l4 l5 l6 l7 (some a39) 1))
  else (hB_J42_treeify_143 V o k4 (hL_J42_treeify_64 V o k4 n) G nx l1 l2 l3 l4 l5 l6 l7 (some a39) (-1))

def hL_J42_treeify_4 (V : HEn) (o : Nat)  : Nat → Gh → Nat → Option Nat → Option Nat → Option Nat → HO (Unit)
  | 0, _, _, _, _, _ => none
  | n + 1, G, nx, l1, l2, l3 =>
  if l3 = none then (cB (hF_J42_moveRootToFront V G nx l1 l2) fun y57 G58 c59 => some ((), G58, 0, 0))
  else ((l3).bind fun a64 => (xR G a64 fl_HashMap_Node_next).bind fun r66 => if gok G r66 [21] = true then (xF V.1 G a64 fl_HashMap_TreeNode_right (va_rf none)).bind fun G69 => (xF V.1 G69 a64 fl_HashMap_TreeNode_left (va_rf none)).bind fun G71 => if l2 = none then ((xF V.1 G71 a64 fl_HashMap_TreeNode_parent (va_rf none)).bind fun G74 => (xF V.1 G74 a64 fl_HashMap_TreeNode_red (.int 0)).bind fun G76 => hB_J42_treeify_209 V o (hL_J42_treeify_4 V o n) G76 nx l1 (some a64) r66)
  else ((xR G71 a64 fl_HashMap_Node_key).bind fun r78 => (xI G71 a64 fl_HashMap_Node_hash).bind fun v80 => hL_J42_treeify_64 V o (hL_J42_treeify_4 V o n) V.2.2.2.2 G71 nx l1 l2 (some a64) r66 r78 v80 none l2) else none)

def hF_J42_treeify (V : HEn) (G : Gh) (nx : Nat) (o : Nat) (a0 : Option Nat) : HO (Unit) :=
  hL_J42_treeify_4 V o V.2.2.2.2 G nx a0 none (some o)

/-! J42_split -/
def hB_J42_split_217 (V : HEn) (o : Nat)  (G : Gh) (nx : Nat)  : HO (Unit) :=
  some ((), G, 0, 0)

def hB_J42_split_171 (V : HEn) (o : Nat)  (G : Gh) (nx : Nat) (l1 : Option Nat) (l2 : Option Nat) (l3 : Int32) (l4 : Int32) (l6 : Option Nat) (l8 : Option Nat) (l11 : Int32) : HO (Unit) :=
  if l8 = none then (hB_J42_split_217 V o G nx)
  else (if 6 < l11 then ((l2).bind fun a3 => if gokA G V.2.1 l8 [20, 23, 21] = true then (wrR V.1 G (V.2.1 4) a3 (l3 + l4) l8).bind fun G5 => if l6 = none then (hB_J42_split_217 V o G5 nx)
  else ((l8).bind fun a9 => if gC G5 a9 21 = true then cB (hF_J42_treeify V G5 nx a9 (some a3)) fun y12 G13 c14 => hB_J42_split_217 V o G13 (nx + c14) else none) else none)
  else ((l8).bind fun a19 => if gC G a19 21 = true then cB (hF_J42_untreeify V G nx a19 l1) fun r22 G23 c24 => (l2).bind fun a29 => if gokA G23 V.2.1 r22 [20, 23, 21] = true then (wrR V.1 G23 (V.2.1 4) a29 (l3 + l4) r22).bind fun G31 => hB_J42_split_217 V o G31 (nx + c24) else none else none))

def hB_J42_split_124 (V : HEn) (o : Nat) (k25 : Gh → Nat → Option Nat → Option Nat → Int32 → Int32 → Option Nat → Option Nat → Option Nat → Option Nat → Int32 → Int32 → Option Nat → HO (Unit)) (G : Gh) (nx : Nat) (l1 : Option Nat) (l2 : Option Nat) (l3 : Int32) (l4 : Int32) (l6 : Option Nat) (l7 : Option Nat) (l8 : Option Nat) (l9 : Option Nat) (l10 : Int32) (l11 : Int32) (l13 : Option Nat) : HO (Unit) :=
  k25 G nx l1 l2 l3 l4 l6 l7 l8 l9 l10 l11 l13

def hB_J42_split_117 (V : HEn) (o : Nat) (k25 : Gh → Nat → Option Nat → Option Nat → Int32 → Int32 → Option Nat → Option Nat → Option Nat → Option Nat → Int32 → Int32 → Option Nat → HO (Unit)) (G : Gh) (nx : Nat) (l1 : Option Nat) (l2 : Option Nat) (l3 : Int32) (l4 : Int32) (l6 : Option Nat) (l7 : Option Nat) (l8 : Option Nat) (l10 : Int32) (l11 : Int32) (l12 : Option Nat) (l13 : Option Nat) : HO (Unit) :=
  hB_J42_split_124 V o k25 G nx l1 l2 l3 l4 l6 l7 l8 l12 l10 (l11 + 1) l13

def hB_J42_split_82 (V : HEn) (o : Nat) (k25 : Gh → Nat → Option Nat → Option Nat → Int32 → Int32 → Option Nat → Option Nat → Option Nat → Option Nat → Int32 → Int32 → Option Nat → HO (Unit)) (G : Gh) (nx : Nat) (l1 : Option Nat) (l2 : Option Nat) (l3 : Int32) (l4 : Int32) (l6 : Option Nat) (l8 : Option Nat) (l9 : Option Nat) (l10 : Int32) (l11 : Int32) (l12 : Option Nat) (l13 : Option Nat) : HO (Unit) :=
  hB_J42_split_124 V o k25 G nx l1 l2 l3 l4 l6 l12 l8 l9 (l10 + 1) l11 l13

def hL_J42_split_25 (V : HEn) (o : Nat)  : Nat → Gh → Nat → Option Nat → Option Nat → Int32 → Int32 → Option Nat → Option Nat → Option Nat → Option Nat → Int32 → Int32 → Option Nat → HO (Unit)
  | 0, _, _, _, _, _, _, _, _, _, _, _, _, _ => none
  | n + 1, G, nx, l1, l2, l3, l4, l6, l7, l8, l9, l10, l11, l12 =>
  if l12 = none then (if l6 = none then (hB_J42_split_171 V o G nx l1 l2 l3 l4 l6 l8 l11)
  else (if 6 < l10 then ((l2).bind fun a37 => if gokA G V.2.1 l6 [20, 23, 21] = true then (wrR V.1 G (V.2.1 4) a37 l3 l6).bind fun G39 => if l8 = none then (hB_J42_split_171 V o G39 nx l1 (some a37) l3 l4 l6 l8 l11)
  else ((l6).bind fun a43 => if gC G39 a43 21 = true then cB (hF_J42_treeify V G39 nx a43 (some a37)) fun y46 G47 c48 => hB_J42_split_171 V o G47 (nx + c48) l1 (some a37) l3 l4 (some a43) l8 l11 else none) else none)
  else ((l6).bind fun a53 => if gC G a53 21 = true then cB (hF_J42_untreeify V G nx a53 l1) fun r56 G57 c58 => (l2).bind fun a63 => if gokA G57 V.2.1 r56 [20, 23, 21] = true then (wrR V.1 G57 (V.2.1 4) a63 l3 r56).bind fun G65 => hB_J42_split_171 V o G65 (nx + c58) l1 (some a63) l3 l4 (some a53) l8 l11 else none else none)))
  else ((l12).bind fun a68 => (xR G a68 fl_HashMap_Node_next).bind fun r70 => if gok G r70 [21] = true then (xF V.1 G a68 fl_HashMap_Node_next (va_rf none)).bind fun G73 => (xI G73 a68 fl_HashMap_Node_hash).bind fun v75 => if (v75 &&& l4) = 0 then ((xF V.1 G73 a68 fl_HashMap_TreeNode_prev (va_rf l7)).bind fun G78 => if l7 = none then (hB_J42_split_82 V o (hL_J42_split_25 V o n) G78 nx l1 l2 l3 l4 (some a68) l8 l9 l10 l11 (some a68) r70)
  else ((l7).bind fun a81 => (xF V.1 G78 a81 fl_HashMap_Node_next (va_rf (some a68))).bind fun G83 => hB_J42_split_82 V o (hL_J42_split_25 V o n) G83 nx l1 l2 l3 l4 l6 l8 l9 l10 l11 (some a68) r70))
  else ((xF V.1 G73 a68 fl_HashMap_TreeNode_prev (va_rf l9)).bind fun G85 => if l9 = none then (hB_J42_split_117 V o (hL_J42_split_25 V o n) G85 nx l1 l2 l3 l4 l6 l7 (some a68) l10 l11 (some a68) r70)
  else ((l9).bind fun a88 => (xF V.1 G85 a88 fl_HashMap_Node_next (va_rf (some a68))).bind fun G90 => hB_J42_split_117 V o (hL_J42_split_25 V o n) G90 nx l1 l2 l3 l4 l6 l7 l8 l10 l11 (some a68) r70)) else none)

def hF_J42_split (V : HEn) (G : Gh) (nx : Nat) (o : Nat) (a0 : Option Nat) (a1 : Option Nat) (a2 : Int32) (a3 : Int32) : HO (Unit) :=
  hL_J42_split_25 V o V.2.2.2.2 G nx a0 a1 a2 a3 none none none none 0 0 (some o)

/-! J39_resize -/
def hB_J39_resize_353 (V : HEn) (o : Nat)  (G : Gh) (nx : Nat) (l6 : Option Nat) : HO (Option Nat) :=
  some (l6, G, 0, 0)

def hB_J39_resize_347 (V : HEn) (o : Nat) (k151 : Gh → Nat → Option Nat → Int32 → Int32 → Option Nat → Int32 → HO (Option Nat)) (G : Gh) (nx : Nat) (l1 : Option Nat) (l2 : Int32) (l4 : Int32) (l6 : Option Nat) (l7 : Int32) : HO (Option Nat) :=
  k151 G nx l1 l2 l4 l6 (l7 + 1)

def hB_J39_resize_327 (V : HEn) (o : Nat) (k151 : Gh → Nat → Option Nat → Int32 → Int32 → Option Nat → Int32 → HO (Option Nat)) (G : Gh) (nx : Nat) (l1 : Option Nat) (l2 : Int32) (l4 : Int32) (l6 : Option Nat) (l7 : Int32) (l11 : Option Nat) (l12 : Option Nat) : HO (Option Nat) :=
  if l12 = none then (hB_J39_resize_347 V o k151 G nx l1 l2 l4 l6 l7)
  else ((l12).bind fun a2 => (xF V.1 G a2 fl_HashMap_Node_next (va_rf none)).bind fun G4 => (l6).bind fun a6 => if gokA G4 V.2.1 l11 [20, 23, 21] = true then (wrR V.1 G4 (V.2.1 4) a6 (l7 + l2) l11).bind fun G8 => hB_J39_resize_347 V o k151 G8 nx l1 l2 l4 (some a6) l7 else none)

def hB_J39_resize_301 (V : HEn) (o : Nat) (k151 : Gh → Nat → Option Nat → Int32 → Int32 → Option Nat → Int32 → HO (Option Nat)) (k235 : Gh → Nat → Option Nat → Int32 → Int32 → Option Nat → Int32 → Option Nat → Option Nat → Option Nat → Option Nat → Option Nat → HO (Option Nat)) (G : Gh) (nx : Nat) (l1 : Option Nat) (l2 : Int32) (l4 : Int32) (l6 : Option Nat) (l7 : Int32) (l9 : Option Nat) (l10 : Option Nat) (l11 : Option Nat) (l12 : Option Nat) (l13 : Option Nat) : HO (Option Nat) :=
  if l13 = none then (if l10 = none then (hB_J39_resize_327 V o k151 G nx l1 l2 l4 l6 l7 l11 l12)
  else ((l10).bind fun a13 => (xF V.1 G a13 fl_HashMap_Node_next (va_rf none)).bind fun G15 => (l6).bind fun a17 => if gokA G15 V.2.1 l9 [20, 23, 21] = true then (wrR V.1 G15 (V.2.1 4) a17 l7 l9).bind fun G19 => hB_J39_resize_327 V o k151 G19 nx l1 l2 l4 (some a17) l7 l11 l12 else none))
  else (k235 G nx l1 l2 l4 l6 l7 l13 l9 l10 l11 l12)

def hB_J39_resize_297 (V : HEn) (o : Nat) (k151 : Gh → Nat → Option Nat → Int32 → Int32 → Option Nat → Int32 → HO (Option Nat)) (k235 : Gh → Nat → Option Nat → Int32 → Int32 → Option Nat → Int32 → Option Nat → Option Nat → Option Nat → Option Nat → Option Nat → HO (Option Nat)) (G : Gh) (nx : Nat) (l1 : Option Nat) (l2 : Int32) (l4 : Int32) (l6 : Option Nat) (l7 : Int32) (l8 : Option Nat) (l9 : Option Nat) (l10 : Option Nat) (l11 : Option Nat) (l13 : Option Nat) : HO (Option Nat) :=
  hB_J39_resize_301 V o k151 k235 G nx l1 l2 l4 l6 l7 l9 l10 l11 l8 l13

def hB_J39_resize_271 (V : HEn) (o : Nat) (k151 : Gh → Nat → Option Nat → Int32 → Int32 → Option Nat → Int32 → HO (Option Nat)) (k235 : Gh → Nat → Option Nat → Int32 → Int32 → Option Nat → Int32 → Option Nat → Option Nat → Option Nat → Option Nat → Option Nat → HO (Option Nat)) (G : Gh) (nx : Nat) (l1 : Option Nat) (l2 : Int32) (l4 : Int32) (l6 : Option Nat) (l7 : Int32) (l8 : Option Nat) (l9 : Option Nat) (l11 : Option Nat) (l12 : Option Nat) (l13 : Option Nat) : HO (Option Nat) :=
  hB_J39_resize_301 V o k151 k235 G nx l1 l2 l4 l6 l7 l9 l8 l11 l12 l13

def hL_J39_resize_235 (V : HEn) (o : Nat) (k151 : Gh → Nat → Option Nat → Int32 → Int32 → Option Nat → Int32 → HO (Option Nat)) : Nat → Gh → Nat → Option Nat → Int32 → Int32 → Option Nat → Int32 → Option Nat → Option Nat → Option Nat → Option Nat → Option Nat → HO (Option Nat)
  | 0, _, _, _, _, _, _, _, _, _, _, _, _ => none
  | n + 1, G, nx, l1, l2, l4, l6, l7, l8, l9, l10, l11, l12 =>
  (l8).bind fun a22 => (xR G a22 fl_HashMap_Node_next).bind fun r24 => (xI G a22 fl_HashMap_Node_hash).bind fun v26 => if (v26 &&& l2) = 0 then (if l10 = none then (hB_J39_resize_271 V o k151 (hL_J39_resize_235 V o k151 n) G nx l1 l2 l4 l6 l7 (some a22) (some a22) l11 l12 r24)
  else ((l10).bind fun a30 => (xF V.1 G a30 fl_HashMap_Node_next (va_rf (some a22))).bind fun G32 => hB_J39_resize_271 V o k151 (hL_J39_resize_235 V o k151 n) G32 nx l1 l2 l4 l6 l7 (some a22) l9 l11 l12 r24))
  else (if l12 = none then (hB_J39_resize_297 V o k151 (hL_J39_resize_235 V o k151 n) G nx l1 l2 l4 l6 l7 (some a22) l9 l10 (some a22) r24)
  else ((l12).bind fun a35 => (xF V.1 G a35 fl_HashMap_Node_next (va_rf (some a22))).bind fun G37 => hB_J39_resize_297 V o k151 (hL_J39_resize_235 V o k151 n) G37 nx l1 l2 l4 l6 l7 (some a22) l9 l10 l11 r24))

def hL_J39_resize_151 (V : HEn) (o : Nat)  : Nat → Gh → Nat → Option Nat → Int32 → Int32 → Option Nat → Int32 → HO (Option Nat)
  | 0, _, _, _, _, _, _, _ => none
  | n + 1, G, nx, l1, l2, l4, l6, l7 =>
  if l2 ≤ l7 then (hB_J39_resize_353 V o G nx l6)
  else ((l1).bind fun a40 => (rdR G (V.2.1 4) a40 l7).bind fun r42 => if r42 = none then (hB_J39_resize_347 V o (hL_J39_resize_151 V o n) G nx (some a40) l2 l4 l6 l7)
  else (if gokA G V.2.1 none [20, 23, 21] = true then (wrR V.1 G (V.2.1 4) a40 l7 none).bind fun G45 => (r42).bind fun a48 => (xR G45 a48 fl_HashMap_Node_next).bind fun r50 => if r50 = none then ((xI G45 a48 fl_HashMap_Node_hash).bind fun v53 => (l6).bind fun a55 => if gokA G45 V.2.1 (some a48) [20, 23, 21] = true then (wrR V.1 G45 (V.2.1 4) a55 (v53 &&& (l4 - 1)) (some a48)).bind fun G57 => hB_J39_resize_347 V o (hL_J39_resize_151 V o n) G57 nx (some a40) l2 l4 (some a55) l7 else none)
  else ((gin G45 (some a48) [21] [20, 23]).bind fun v60 => if v60 = 0 then (hL_J39_resize_235 V o (hL_J39_resize_151 V o n) V.2.2.2.2 G45 nx (some a40) l2 l4 l6 l7 (some a48) none none none none)
  else (if gok G45 (some a48) [21] = true then if gC G45 a48 21 = true then cB (hF_J42_split V G45 nx a48 (some o) l6 l7 l2) fun y65 G66 c67 => hB_J39_resize_347 V o (hL_J39_resize_151 V o n) G66 (nx + c67) (some a40) l2 l4 l6 l7 else none else none)) else none))

def hB_J39_resize_85 (V : HEn) (o : Nat)  (G : Gh) (nx : Nat) (l1 : Option Nat) (l2 : Int32) (l4 : Int32) (l5 : Int32) : HO (Option Nat) :=
  if l5 = 0 then (none)
  else ((xF V.1 G o fl_HashMap_threshold (.int l5)).bind fun G73 => (gn l4).bind fun n75 => tick 1 n75 ((xF V.1 (gset G73 nx (.inl (V.2.1 4, n75, .inr (.inr (.inr (.inr (fun _ => none))))))) o fl_HashMap_table (va_rf (some nx))).bind fun G79 => if l1 = none then (hB_J39_resize_353 V o G79 (nx + 1) (some nx))
  else (hL_J39_resize_151 V o V.2.2.2.2 G79 (nx + 1) l1 l2 l4 (some nx) 0)))

def hB_J39_resize_15 (V : HEn) (o : Nat)  (G : Gh) (nx : Nat) (s0 : Int32) (l1 : Option Nat) : HO (Option Nat) :=
  (xI G o fl_HashMap_threshold).bind fun v82 => if s0 ≤ 0 then (if v82 ≤ 0 then (hB_J39_resize_85 V o G nx l1 s0 16 12)
  else (hB_J39_resize_85 V o G nx l1 s0 v82 0))
  else (if s0 < 1073741824 then (if (1073741824 : Int32) ≤ (s0 <<< (1 &&& 31)) then (hB_J39_resize_85 V o G nx l1 s0 (s0 <<< (1 &&& 31)) 0)
  else (if s0 < 16 then (hB_J39_resize_85 V o G nx l1 s0 (s0 <<< (1 &&& 31)) 0)
  else (hB_J39_resize_85 V o G nx l1 s0 (s0 <<< (1 &&& 31)) (v82 <<< (1 &&& 31)))))
  else ((xF V.1 G o fl_HashMap_threshold (.int 2147483647)).bind fun G89 => some (l1, G89, 0, 0)))

def hF_J39_resize (V : HEn) (G : Gh) (nx : Nat) (o : Nat) : HO (Option Nat) :=
  (xR G o fl_HashMap_table).bind fun r191 => if r191 = none then (hB_J39_resize_15 V o G nx 0 r191)
  else ((r191).bind fun a194 => (aln G (V.2.1 4) a194).bind fun n196 => hB_J39_resize_15 V o G nx n196 (some a194))

/-! J39_newNode -/
def hF_J39_newNode (V : HEn) (G : Gh) (nx : Nat) (o : Nat) (a0 : Int32) (a1 : Option Nat) (a2 : Option Nat) (a3 : Option Nat) : HO (Option Nat) :=
  tick 1 4 (cB (hF_J40_init V (gset G nx (.inr (20, [.int 0, .null, .null, .null]))) (nx + 1) nx a0 a1 a2 a3) fun y103 G104 c105 => some ((some nx), G104, 0, 0))

/-! J46_linkNodeAtEnd -/
def hB_J46_linkNodeAtEnd_75 (V : HEn) (o : Nat)  (G : Gh) (nx : Nat)  : HO (Unit) :=
  some ((), G, 0, 0)

def hB_J46_linkNodeAtEnd_40 (V : HEn) (o : Nat)  (G : Gh) (nx : Nat)  : HO (Unit) :=
  hB_J46_linkNodeAtEnd_75 V o G nx

def hF_J46_linkNodeAtEnd (V : HEn) (G : Gh) (nx : Nat) (o : Nat) (a0 : Option Nat) : HO (Unit) :=
  (xI G o fl_LinkedHashMap_putMode).bind fun v101 => if v101 = 1 then ((xR G o fl_LinkedHashMap_head).bind fun r104 => (xF V.1 G o fl_LinkedHashMap_head (va_rf a0)).bind fun G106 => if r104 = none then ((xF V.1 G106 o fl_LinkedHashMap_tail (va_rf a0)).bind fun G109 => hB_J46_linkNodeAtEnd_40 V o G109 nx)
  else ((a0).bind fun a111 => (xF V.1 G106 a111 fl_LinkedHashMap_Entry_after (va_rf r104)).bind fun G113 => (r104).bind fun a115 => (xF V.1 G113 a115 fl_LinkedHashMap_Entry_before (va_rf (some a111))).bind fun G117 => hB_J46_linkNodeAtEnd_40 V o G117 nx))
  else ((xR G o fl_LinkedHashMap_tail).bind fun r119 => (xF V.1 G o fl_LinkedHashMap_tail (va_rf a0)).bind fun G121 => if r119 = none then ((xF V.1 G121 o fl_LinkedHashMap_head (va_rf a0)).bind fun G124 => hB_J46_linkNodeAtEnd_75 V o G124 nx)
  else ((a0).bind fun a126 => (xF V.1 G121 a126 fl_LinkedHashMap_Entry_before (va_rf r119)).bind fun G128 => (r119).bind fun a130 => (xF V.1 G128 a130 fl_LinkedHashMap_Entry_after (va_rf (some a126))).bind fun G132 => hB_J46_linkNodeAtEnd_75 V o G132 nx))

/-! J46_newNode -/
def hF_J46_newNode (V : HEn) (G : Gh) (nx : Nat) (o : Nat) (a0 : Int32) (a1 : Option Nat) (a2 : Option Nat) (a3 : Option Nat) : HO (Option Nat) :=
  tick 1 6 (cB (hF_J41_init V (gset G nx (.inr (23, [.int 0, .null, .null, .null, .null, .null]))) (nx + 1) nx a0 a1 a2 a3) fun y103 G104 c105 => if gC G104 o 22 = true then cB (hF_J46_linkNodeAtEnd V G104 ((nx + 1) + c105) o (some nx)) fun y111 G112 c113 => some ((some nx), G112, 0, 0) else none)

/-! J42_init -/
def hF_J42_init (V : HEn) (G : Gh) (nx : Nat) (o : Nat) (a0 : Int32) (a1 : Option Nat) (a2 : Option Nat) (a3 : Option Nat) : HO (Unit) :=
  cB (hF_J41_init V G nx o a0 a1 a2 a3) fun y101 G102 c103 => some ((), G102, 0, 0)

/-! J39_newTreeNode -/
def hF_J39_newTreeNode (V : HEn) (G : Gh) (nx : Nat) (o : Nat) (a0 : Int32) (a1 : Option Nat) (a2 : Option Nat) (a3 : Option Nat) : HO (Option Nat) :=
  tick 1 11 (cB (hF_J42_init V (gset G nx (.inr (21, [.int 0, .null, .null, .null, .null, .null, .null, .null, .null, .null, .int 0]))) (nx + 1) nx a0 a1 a2 a3) fun y103 G104 c105 => some ((some nx), G104, 0, 0))

/-! J46_newTreeNode -/
def hF_J46_newTreeNode (V : HEn) (G : Gh) (nx : Nat) (o : Nat) (a0 : Int32) (a1 : Option Nat) (a2 : Option Nat) (a3 : Option Nat) : HO (Option Nat) :=
  tick 1 11 (cB (hF_J42_init V (gset G nx (.inr (21, [.int 0, .null, .null, .null, .null, .null, .null, .null, .null, .null, .int 0]))) (nx + 1) nx a0 a1 a2 a3) fun y103 G104 c105 => if gC G104 o 22 = true then cB (hF_J46_linkNodeAtEnd V G104 ((nx + 1) + c105) o (some nx)) fun y111 G112 c113 => some ((some nx), G112, 0, 0) else none)

/-! J42_putTreeVal -/
def hD_J42_putTreeVal_236 (V : HEn) (G : Gh) (nx : Nat) (b : Nat) (x0 : Int32) (x1 : Option Nat) (x2 : Option Nat) (x3 : Option Nat) : HO (Option Nat) :=
  if gC G b 19 = true then hF_J39_newTreeNode V G nx b x0 x1 x2 x3 else (if gC G b 22 = true then hF_J46_newTreeNode V G nx b x0 x1 x2 x3 else (none))

def hB_J42_putTreeVal_85 (V : HEn) (o : Nat)  (G : Gh) (nx : Nat) (l9 : Option Nat) : HO (Option Nat) :=
  some (l9, G, 0, 0)

def hB_J42_putTreeVal_298 (V : HEn) (o : Nat)  (G : Gh) (nx : Nat) (l2 : Option Nat) (l8 : Option Nat) (l15 : Option Nat) : HO (Option Nat) :=
  cB (hF_J42_balanceInsertion V G nx l8 l15) fun r1 G2 c3 => cB (hF_J42_moveRootToFront V G2 (nx + c3) l2 r1) fun y8 G9 c10 => some (none, G9, 0, 0)

def hB_J42_putTreeVal_263 (V : HEn) (o : Nat)  (G : Gh) (nx : Nat) (l2 : Option Nat) (l8 : Option Nat) (l13 : Option Nat) (l14 : Option Nat) (l15 : Option Nat) : HO (Option Nat) :=
  (l13).bind fun a15 => (xF V.1 G a15 fl_HashMap_Node_next (va_rf l15)).bind fun G17 => (l15).bind fun a19 => (xF V.1 G17 a19 fl_HashMap_TreeNode_prev (va_rf (some a15))).bind fun G21 => (xF V.1 G21 a19 fl_HashMap_TreeNode_parent (va_rf (some a15))).bind fun G23 => if l14 = none then (hB_J42_putTreeVal_298 V o G23 nx l2 l8 (some a19))
  else (if gok G23 l14 [21] = true then (l14).bind fun a27 => (xF V.1 G23 a27 fl_HashMap_TreeNode_prev (va_rf (some a19))).bind fun G29 => hB_J42_putTreeVal_298 V o G29 nx l2 l8 (some a19) else none)

def hB_J42_putTreeVal_215 (V : HEn) (o : Nat) (k27 : Gh → Nat → Option Nat → Option Nat → Int32 → Option Nat → Option Nat → Option Nat → Int32 → Option Nat → Option Nat → HO (Option Nat)) (G : Gh) (nx : Nat) (s0 : Option Nat) (l1 : Option Nat) (l2 : Option Nat) (l3 : Int32) (l4 : Option Nat) (l5 : Option Nat) (l6 : Option Nat) (l7 : Int32) (l8 : Option Nat) (l10 : Int32) (l13 : Option Nat) : HO (Option Nat) :=
  if s0 = none then ((l13).bind fun a32 => (xR G a32 fl_HashMap_Node_next).bind fun r34 => (l1).bind fun a36 => cB (hD_J42_putTreeVal_236 V G nx a36 l3 l4 l5 r34) fun r38 G39 c40 => if 0 < l10 then ((xF V.1 G39 a32 fl_HashMap_TreeNode_right (va_rf r38)).bind fun G46 => hB_J42_putTreeVal_263 V o G46 (nx + c40) l2 l8 (some a32) r34 r38)
  else ((xF V.1 G39 a32 fl_HashMap_TreeNode_left (va_rf r38)).bind fun G48 => hB_J42_putTreeVal_263 V o G48 (nx + c40) l2 l8 (some a32) r34 r38))
  else (k27 G nx l1 l2 l3 l4 l5 l6 l7 l8 s0)

def hB_J42_putTreeVal_193 (V : HEn) (o : Nat) (k27 : Gh → Nat → Option Nat → Option Nat → Int32 → Option Nat → Option Nat → Option Nat → Int32 → Option Nat → Option Nat → HO (Option Nat)) (G : Gh) (nx : Nat) (l1 : Option Nat) (l2 : Option Nat) (l3 : Int32) (l4 : Option Nat) (l5 : Option Nat) (l6 : Option Nat) (l7 : Int32) (l8 : Option Nat) (l9 : Option Nat) (l10 : Int32) : HO (Option Nat) :=
  if 0 < l10 then ((l9).bind fun a51 => (xR G a51 fl_HashMap_TreeNode_right).bind fun r53 => hB_J42_putTreeVal_215 V o k27 G nx r53 l1 l2 l3 l4 l5 l6 l7 l8 l10 (some a51))
  else ((l9).bind fun a55 => (xR G a55 fl_HashMap_TreeNode_left).bind fun r57 => hB_J42_putTreeVal_215 V o k27 G nx r57 l1 l2 l3 l4 l5 l6 l7 l8 l10 (some a55))

def hB_J42_putTreeVal_119 (V : HEn) (o : Nat)  (G : Gh) (nx : Nat) (l7 : Int32) : HO (Option Nat) :=
  none

def hB_J42_putTreeVal_104 (V : HEn) (o : Nat) (k27 : Gh → Nat → Option Nat → Option Nat → Int32 → Option Nat → Option Nat → Option Nat → Int32 → Option Nat → Option Nat → HO (Option Nat)) (G : Gh) (nx : Nat) (l1 : Option Nat) (l2 : Option Nat) (l3 : Int32) (l4 : Option Nat) (l5 : Option Nat) (l6 : Option Nat) (l7 : Int32) (l8 : Option Nat) (l9 : Option Nat) (l12 : Option Nat) : HO (Option Nat) :=
  cB (hF_J39_compareComparables V G nx l6 l4 l12) fun y59 G60 c61 => if y59 = 0 then (hB_J42_putTreeVal_119 V o G60 (nx + c61) l7)
  else (hB_J42_putTreeVal_193 V o k27 G60 (nx + c61) l1 l2 l3 l4 l5 l6 l7 l8 l9 y59)

def hB_J42_putTreeVal_88 (V : HEn) (o : Nat) (k27 : Gh → Nat → Option Nat → Option Nat → Int32 → Option Nat → Option Nat → Option Nat → Int32 → Option Nat → Option Nat → HO (Option Nat)) (G : Gh) (nx : Nat) (l1 : Option Nat) (l2 : Option Nat) (l3 : Int32) (l4 : Option Nat) (l5 : Option Nat) (l6 : Option Nat) (l7 : Int32) (l8 : Option Nat) (l9 : Option Nat) (l12 : Option Nat) : HO (Option Nat) :=
  if l6 = none then (cB (hF_J39_comparableClassFor V G nx l4) fun r68 G69 c70 => if r68 = none then (hB_J42_putTreeVal_119 V o G69 (nx + c70) l7)
  else (hB_J42_putTreeVal_104 V o k27 G69 (nx + c70) l1 l2 l3 l4 l5 r68 l7 l8 l9 l12))
  else (hB_J42_putTreeVal_104 V o k27 G nx l1 l2 l3 l4 l5 l6 l7 l8 l9 l12)

def hL_J42_putTreeVal_27 (V : HEn) (o : Nat)  : Nat → Gh → Nat → Option Nat → Option Nat → Int32 → Option Nat → Option Nat → Option Nat → Int32 → Option Nat → Option Nat → HO (Option Nat)
  | 0, _, _, _, _, _, _, _, _, _, _, _ => none
  | n + 1, G, nx, l1, l2, l3, l4, l5, l6, l7, l8, l9 =>
  (l9).bind fun a76 => (xI G a76 fl_HashMap_Node_hash).bind fun v78 => if v78 ≤ l3 then (if l3 ≤ v78 then ((xR G a76 fl_HashMap_Node_key).bind fun r82 => if r82 = l4 then (hB_J42_putTreeVal_85 V o G nx (some a76))
  else (if l4 = none then (hB_J42_putTreeVal_88 V o (hL_J42_putTreeVal_27 V o n) G nx l1 l2 l3 l4 l5 l6 l7 l8 (some a76) r82)
  else ((l4).bind fun a86 => if gC G a86 25 = true then cB (hF_J7_equals V G nx a86 r82) fun y89 G90 c91 => if y89 = 0 then (hB_J42_putTreeVal_88 V o (hL_J42_putTreeVal_27 V o n) G90 (nx + c91) l1 l2 l3 (some a86) l5 l6 l7 l8 (some a76) r82)
  else (hB_J42_putTreeVal_85 V o G90 (nx + c91) (some a76)) else none)))
  else (hB_J42_putTreeVal_193 V o (hL_J42_putTreeVal_27 V o n) G nx l1 l2 l3 l4 l5 l6 l7 l8 (some a76) 1))
  else (hB_J42_putTreeVal_193 V o (hL_J42_putTreeVal_27 V o n) G nx l1 l2 l3 l4 l5 l6 l7 l8 (some a76) (-1))

def hB_J42_putTreeVal_21 (V : HEn) (o : Nat)  (G : Gh) (nx : Nat) (s0 : Option Nat) (l1 : Option Nat) (l2 : Option Nat) (l3 : Int32) (l4 : Option Nat) (l5 : Option Nat) (l6 : Option Nat) (l7 : Int32) : HO (Option Nat) :=
  hL_J42_putTreeVal_27 V o V.2.2.2.2 G nx l1 l2 l3 l4 l5 l6 l7 s0 s0

def hF_J42_putTreeVal (V : HEn) (G : Gh) (nx : Nat) (o : Nat) (a0 : Option Nat) (a1 : Option Nat) (a2 : Int32) (a3 : Option Nat) (a4 : Option Nat) : HO (Option Nat) :=
  (xR G o fl_HashMap_TreeNode_parent).bind fun r197 => if r197 = none then (hB_J42_putTreeVal_21 V o G nx (some o) a0 a1 a2 a3 a4 none 0)
  else (if gC G o 21 = true then cB (hF_J42_root V G nx o) fun r201 G202 c203 => hB_J42_putTreeVal_21 V o G202 (nx + c203) r201 a0 a1 a2 a3 a4 none 0 else none)

/-! J39_replacementTreeNode -/
def hF_J39_replacementTreeNode (V : HEn) (G : Gh) (nx : Nat) (o : Nat) (a0 : Option Nat) (a1 : Option Nat) : HO (Option Nat) :=
  tick 1 11 ((a0).bind fun a103 => (xI (gset G nx (.inr (21, [.int 0, .null, .null, .null, .null, .null, .null, .null, .null, .null, .int 0]))) a103 fl_HashMap_Node_hash).bind fun v105 => (xR (gset G nx (.inr (21, [.int 0, .null, .null, .null, .null, .null, .null, .null, .null, .null, .int 0]))) a103 fl_HashMap_Node_key).bind fun r107 => (xR (gset G nx (.inr (21, [.int 0, .null, .null, .null, .null, .null, .null, .null, .null, .null, .int 0]))) a103 fl_HashMap_Node_value).bind fun r109 => cB (hF_J42_init V (gset G nx (.inr (21, [.int 0, .null, .null, .null, .null, .null, .null, .null, .null, .null, .int 0]))) (nx + 1) nx v105 r107 r109 a1) fun y111 G112 c113 => some ((some nx), G112, 0, 0))

/-! J46_replacementTreeNode -/
def hF_J46_replacementTreeNode (V : HEn) (G : Gh) (nx : Nat) (o : Nat) (a0 : Option Nat) (a1 : Option Nat) : HO (Option Nat) :=
  if gok G a0 [23] = true then tick 1 11 ((a0).bind fun a104 => (xI (gset G nx (.inr (21, [.int 0, .null, .null, .null, .null, .null, .null, .null, .null, .null, .int 0]))) a104 fl_HashMap_Node_hash).bind fun v106 => (xR (gset G nx (.inr (21, [.int 0, .null, .null, .null, .null, .null, .null, .null, .null, .null, .int 0]))) a104 fl_HashMap_Node_key).bind fun r108 => (xR (gset G nx (.inr (21, [.int 0, .null, .null, .null, .null, .null, .null, .null, .null, .null, .int 0]))) a104 fl_HashMap_Node_value).bind fun r110 => cB (hF_J42_init V (gset G nx (.inr (21, [.int 0, .null, .null, .null, .null, .null, .null, .null, .null, .null, .int 0]))) (nx + 1) nx v106 r108 r110 a1) fun y112 G113 c114 => if gC G113 o 22 = true then cB (hF_J46_transferLinks V G113 ((nx + 1) + c114) o (some a104) (some nx)) fun y120 G121 c122 => some ((some nx), G121, 0, 0) else none) else none

/-! J39_treeifyBin -/
def hD_J39_treeifyBin_47 (V : HEn) (G : Gh) (nx : Nat) (b : Nat) (x0 : Option Nat) (x1 : Option Nat) : HO (Option Nat) :=
  if gC G b 19 = true then hF_J39_replacementTreeNode V G nx b x0 x1 else (if gC G b 22 = true then hF_J46_replacementTreeNode V G nx b x0 x1 else (none))

def hB_J39_treeifyBin_109 (V : HEn) (o : Nat)  (G : Gh) (nx : Nat)  : HO (Unit) :=
  some ((), G, 0, 0)

def hB_J39_treeifyBin_13 (V : HEn) (o : Nat)  (G : Gh) (nx : Nat)  : HO (Unit) :=
  if [19, 22].any (gC G o) = true then cB (hF_J39_resize V G nx o) fun r2 G3 c4 => hB_J39_treeifyBin_109 V o G3 (nx + c4) else none

def hB_J39_treeifyBin_78 (V : HEn) (o : Nat) (k43 : Gh → Nat → Option Nat → Int32 → Option Nat → Option Nat → Option Nat → HO (Unit)) (G : Gh) (nx : Nat) (l1 : Option Nat) (l4 : Int32) (l5 : Option Nat) (l6 : Option Nat) (l8 : Option Nat) : HO (Unit) :=
  (l5).bind fun a9 => (xR G a9 fl_HashMap_Node_next).bind fun r11 => if r11 = none then ((l1).bind fun a14 => if gokA G V.2.1 l6 [20, 23, 21] = true then (wrR V.1 G (V.2.1 4) a14 l4 l6).bind fun G16 => if l6 = none then (hB_J39_treeifyBin_109 V o G16 nx)
  else ((l6).bind fun a20 => if gC G16 a20 21 = true then cB (hF_J42_treeify V G16 nx a20 (some a14)) fun y23 G24 c25 => hB_J39_treeifyBin_109 V o G24 (nx + c25) else none) else none)
  else (k43 G nx l1 l4 r11 l6 l8)

def hL_J39_treeifyBin_43 (V : HEn) (o : Nat)  : Nat → Gh → Nat → Option Nat → Int32 → Option Nat → Option Nat → Option Nat → HO (Unit)
  | 0, _, _, _, _, _, _, _ => none
  | n + 1, G, nx, l1, l4, l5, l6, l7 =>
  cB (hD_J39_treeifyBin_47 V G nx o l5 none) fun r30 G31 c32 => if l7 = none then (hB_J39_treeifyBin_78 V o (hL_J39_treeifyBin_43 V o n) G31 (nx + c32) l1 l4 l5 r30 r30)
  else ((r30).bind fun a38 => (xF V.1 G31 a38 fl_HashMap_TreeNode_prev (va_rf l7)).bind fun G40 => (l7).bind fun a42 => (xF V.1 G40 a42 fl_HashMap_Node_next (va_rf (some a38))).bind fun G44 => hB_J39_treeifyBin_78 V o (hL_J39_treeifyBin_43 V o n) G44 (nx + c32) l1 l4 l5 l6 (some a38))

def hF_J39_treeifyBin (V : HEn) (G : Gh) (nx : Nat) (o : Nat) (a0 : Option Nat) (a1 : Int32) : HO (Unit) :=
  if a0 = none then (hB_J39_treeifyBin_13 V o G nx)
  else ((a0).bind fun a147 => (aln G (V.2.1 4) a147).bind fun n149 => if 64 ≤ n149 then ((rdR G (V.2.1 4) a147 ((n149 - 1) &&& a1)).bind fun r152 => if r152 = none then (hB_J39_treeifyBin_109 V o G nx)
  else (hL_J39_treeifyBin_43 V o V.2.2.2.2 G nx (some a147) ((n149 - 1) &&& a1) r152 none none))
  else (hB_J39_treeifyBin_13 V o G nx))

/-! J39_afterNodeAccess -/
def hF_J39_afterNodeAccess (V : HEn) (G : Gh) (nx : Nat) (o : Nat) (a0 : Option Nat) : HO (Unit) :=
  some ((), G, 0, 0)

/-! J46_afterNodeAccess -/
def hB_J46_afterNodeAccess_265 (V : HEn) (o : Nat)  (G : Gh) (nx : Nat)  : HO (Unit) :=
  some ((), G, 0, 0)

def hB_J46_afterNodeAccess_249 (V : HEn) (o : Nat)  (G : Gh) (nx : Nat) (l4 : Option Nat) : HO (Unit) :=
  (xF V.1 G o fl_LinkedHashMap_head (va_rf l4)).bind fun G1 => (xI G1 o fl_HashMap_modCount).bind fun v3 => (xF V.1 G1 o fl_HashMap_modCount (.int (v3 + 1))).bind fun G5 => hB_J46_afterNodeAccess_265 V o G5 nx

def hB_J46_afterNodeAccess_224 (V : HEn) (o : Nat)  (G : Gh) (nx : Nat) (l3 : Option Nat) (l4 : Option Nat) : HO (Unit) :=
  if l3 = none then ((xF V.1 G o fl_LinkedHashMap_tail (va_rf l4)).bind fun G8 => hB_J46_afterNodeAccess_249 V o G8 nx l4)
  else ((l4).bind fun a10 => (xF V.1 G a10 fl_LinkedHashMap_Entry_after (va_rf l3)).bind fun G12 => (l3).bind fun a14 => (xF V.1 G12 a14 fl_LinkedHashMap_Entry_before (va_rf (some a10))).bind fun G16 => hB_J46_afterNodeAccess_249 V o G16 nx (some a10))

def hB_J46_afterNodeAccess_206 (V : HEn) (o : Nat)  (G : Gh) (nx : Nat) (l3 : Option Nat) (l4 : Option Nat) (l5 : Option Nat) (l6 : Option Nat) : HO (Unit) :=
  if l5 = none then (hB_J46_afterNodeAccess_224 V o G nx l6 l4)
  else ((l5).bind fun a19 => (xF V.1 G a19 fl_LinkedHashMap_Entry_after (va_rf l6)).bind fun G21 => hB_J46_afterNodeAccess_224 V o G21 nx l3 l4)

def hB_J46_afterNodeAccess_141 (V : HEn) (o : Nat)  (G : Gh) (nx : Nat) (l1 : Option Nat) : HO (Unit) :=
  (xI G o fl_LinkedHashMap_putMode).bind fun v23 => if v23 = 1 then ((xR G o fl_LinkedHashMap_head).bind fun r26 => if r26 = l1 then (hB_J46_afterNodeAccess_265 V o G nx)
  else (if gok G l1 [23] = true then (l1).bind fun a30 => (xR G a30 fl_LinkedHashMap_Entry_before).bind fun r32 => (xR G a30 fl_LinkedHashMap_Entry_after).bind fun r34 => (xF V.1 G a30 fl_LinkedHashMap_Entry_before (va_rf none)).bind fun G36 => if r34 = none then ((xF V.1 G36 o fl_LinkedHashMap_tail (va_rf r32)).bind fun G39 => hB_J46_afterNodeAccess_206 V o G39 nx r26 (some a30) r32 r34)
  else ((r34).bind fun a41 => (xF V.1 G36 a41 fl_LinkedHashMap_Entry_before (va_rf r32)).bind fun G43 => hB_J46_afterNodeAccess_206 V o G43 nx r26 (some a30) r32 (some a41)) else none))
  else (hB_J46_afterNodeAccess_265 V o G nx)

def hB_J46_afterNodeAccess_122 (V : HEn) (o : Nat)  (G : Gh) (nx : Nat) (l4 : Option Nat) : HO (Unit) :=
  (xF V.1 G o fl_LinkedHashMap_tail (va_rf l4)).bind fun G45 => (xI G45 o fl_HashMap_modCount).bind fun v47 => (xF V.1 G45 o fl_HashMap_modCount (.int (v47 + 1))).bind fun G49 => hB_J46_afterNodeAccess_265 V o G49 nx

def hB_J46_afterNodeAccess_97 (V : HEn) (o : Nat)  (G : Gh) (nx : Nat) (l2 : Option Nat) (l4 : Option Nat) : HO (Unit) :=
  if l2 = none then ((xF V.1 G o fl_LinkedHashMap_head (va_rf l4)).bind fun G52 => hB_J46_afterNodeAccess_122 V o G52 nx l4)
  else ((l4).bind fun a54 => (xF V.1 G a54 fl_LinkedHashMap_Entry_before (va_rf l2)).bind fun G56 => (l2).bind fun a58 => (xF V.1 G56 a58 fl_LinkedHashMap_Entry_after (va_rf (some a54))).bind fun G60 => hB_J46_afterNodeAccess_122 V o G60 nx (some a54))

def hB_J46_afterNodeAccess_79 (V : HEn) (o : Nat)  (G : Gh) (nx : Nat) (l2 : Option Nat) (l4 : Option Nat) (l5 : Option Nat) (l6 : Option Nat) : HO (Unit) :=
  if l6 = none then (hB_J46_afterNodeAccess_97 V o G nx l5 l4)
  else ((l6).bind fun a63 => (xF V.1 G a63 fl_LinkedHashMap_Entry_before (va_rf l5)).bind fun G65 => hB_J46_afterNodeAccess_97 V o G65 nx l2 l4)

def hB_J46_afterNodeAccess_22 (V : HEn) (o : Nat)  (G : Gh) (nx : Nat) (l1 : Option Nat) : HO (Unit) :=
  (xR G o fl_LinkedHashMap_tail).bind fun r67 => if r67 = l1 then (hB_J46_afterNodeAccess_141 V o G nx l1)
  else (if gok G l1 [23] = true then (l1).bind fun a71 => (xR G a71 fl_LinkedHashMap_Entry_before).bind fun r73 => (xR G a71 fl_LinkedHashMap_Entry_after).bind fun r75 => (xF V.1 G a71 fl_LinkedHashMap_Entry_after (va_rf none)).bind fun G77 => if r73 = none then ((xF V.1 G77 o fl_LinkedHashMap_head (va_rf r75)).bind fun G80 => hB_J46_afterNodeAccess_79 V o G80 nx r67 (some a71) r73 r75)
  else ((r73).bind fun a82 => (xF V.1 G77 a82 fl_LinkedHashMap_Entry_after (va_rf r75)).bind fun G84 => hB_J46_afterNodeAccess_79 V o G84 nx r67 (some a71) (some a82) r75) else none)

def hF_J46_afterNodeAccess (V : HEn) (G : Gh) (nx : Nat) (o : Nat) (a0 : Option Nat) : HO (Unit) :=
  (xI G o fl_LinkedHashMap_putMode).bind fun v186 => if v186 = 2 then (hB_J46_afterNodeAccess_22 V o G nx a0)
  else ((xI G o fl_LinkedHashMap_putMode).bind fun v189 => if v189 = 0 then ((xI G o fl_LinkedHashMap_accessOrder).bind fun v192 => if v192 = 0 then (hB_J46_afterNodeAccess_141 V o G nx a0)
  else (hB_J46_afterNodeAccess_22 V o G nx a0))
  else (hB_J46_afterNodeAccess_141 V o G nx a0))

/-! J39_afterNodeInsertion -/
def hF_J39_afterNodeInsertion (V : HEn) (G : Gh) (nx : Nat) (o : Nat) (a0 : Int32) : HO (Unit) :=
  some ((), G, 0, 0)

/-! J46_removeEldestEntry -/
def hF_J46_removeEldestEntry (V : HEn) (G : Gh) (nx : Nat) (o : Nat) (a0 : Option Nat) : HO (Int32) :=
  some (0, G, 0, 0)

/-! J46_afterNodeInsertion -/
def hB_J46_afterNodeInsertion_39 (V : HEn) (o : Nat)  (G : Gh) (nx : Nat)  : HO (Unit) :=
  some ((), G, 0, 0)

def hF_J46_afterNodeInsertion (V : HEn) (G : Gh) (nx : Nat) (o : Nat) (a0 : Int32) : HO (Unit) :=
  if a0 = 0 then (hB_J46_afterNodeInsertion_39 V o G nx)
  else ((xR G o fl_LinkedHashMap_head).bind fun r102 => if r102 = none then (hB_J46_afterNodeInsertion_39 V o G nx)
  else (if gC G o 22 = true then cB (hF_J46_removeEldestEntry V G nx o r102) fun y106 G107 c108 => if y106 = 0 then (hB_J46_afterNodeInsertion_39 V o G107 (nx + c108))
  else (none) else none))

/-! J39_putVal -/
def hD_J39_putVal_295 (V : HEn) (G : Gh) (nx : Nat) (b : Nat) (x0 : Int32) : HO (Unit) :=
  if gC G b 19 = true then hF_J39_afterNodeInsertion V G nx b x0 else (if gC G b 22 = true then hF_J46_afterNodeInsertion V G nx b x0 else (none))

def hD_J39_putVal_253 (V : HEn) (G : Gh) (nx : Nat) (b : Nat) (x0 : Option Nat) : HO (Unit) :=
  if gC G b 19 = true then hF_J39_afterNodeAccess V G nx b x0 else (if gC G b 22 = true then hF_J46_afterNodeAccess V G nx b x0 else (none))

def hD_J39_putVal_152 (V : HEn) (G : Gh) (nx : Nat) (b : Nat) (x0 : Int32) (x1 : Option Nat) (x2 : Option Nat) (x3 : Option Nat) : HO (Option Nat) :=
  if gC G b 19 = true then hF_J39_newNode V G nx b x0 x1 x2 x3 else (if gC G b 22 = true then hF_J46_newNode V G nx b x0 x1 x2 x3 else (none))

def hD_J39_putVal_203 (V : HEn) (G : Gh) (nx : Nat) (b : Nat) (x0 : Option Nat) : HO (Int32) :=
  if gC G b 26 = true then hF_J23_equals V G nx b x0 else (if gC G b 25 = true then hF_J7_equals V G nx b x0 else (none))

def hD_J39_putVal_56 (V : HEn) (G : Gh) (nx : Nat) (b : Nat) (x0 : Int32) (x1 : Option Nat) (x2 : Option Nat) (x3 : Option Nat) : HO (Option Nat) :=
  if gC G b 19 = true then hF_J39_newNode V G nx b x0 x1 x2 x3 else (if gC G b 22 = true then hF_J46_newNode V G nx b x0 x1 x2 x3 else (none))

def hD_J39_putVal_91 (V : HEn) (G : Gh) (nx : Nat) (b : Nat) (x0 : Option Nat) : HO (Int32) :=
  if gC G b 26 = true then hF_J23_equals V G nx b x0 else (if gC G b 25 = true then hF_J7_equals V G nx b x0 else (none))

def hB_J39_putVal_212 (V : HEn) (o : Nat) (k134 : Gh → Nat → Int32 → Option Nat → Option Nat → Int32 → Int32 → Option Nat → Option Nat → Int32 → HO (Option Nat)) (G : Gh) (nx : Nat) (l1 : Int32) (l2 : Option Nat) (l3 : Option Nat) (l4 : Int32) (l5 : Int32) (l6 : Option Nat) (l10 : Option Nat) (l12 : Int32) : HO (Option Nat) :=
  k134 G nx l1 l2 l3 l4 l5 l6 l10 (l12 + 1)

def hB_J39_putVal_292 (V : HEn) (o : Nat)  (G : Gh) (nx : Nat) (l5 : Int32) : HO (Option Nat) :=
  cB (hD_J39_putVal_295 V G nx o l5) fun y1 G2 c3 => some (none, G2, 0, 0)

def hB_J39_putVal_259 (V : HEn) (o : Nat)  (G : Gh) (nx : Nat) (l5 : Int32) : HO (Option Nat) :=
  (xI G o fl_HashMap_modCount).bind fun v8 => (xF V.1 G o fl_HashMap_modCount (.int (v8 + 1))).bind fun G10 => (xI G10 o fl_HashMap_size).bind fun v12 => (xF V.1 G10 o fl_HashMap_size (.int (v12 + 1))).bind fun G14 => (xI G14 o fl_HashMap_threshold).bind fun v16 => if (v12 + 1) ≤ v16 then (hB_J39_putVal_292 V o G14 nx l5)
  else (if [19, 22].any (gC G14 o) = true then cB (hF_J39_resize V G14 nx o) fun r20 G21 c22 => hB_J39_putVal_292 V o G21 (nx + c22) l5 else none)

def hB_J39_putVal_250 (V : HEn) (o : Nat)  (G : Gh) (nx : Nat) (l10 : Option Nat) (l12 : Option Nat) : HO (Option Nat) :=
  cB (hD_J39_putVal_253 V G nx o l10) fun y27 G28 c29 => some (l12, G28, 0, 0)

def hB_J39_putVal_244 (V : HEn) (o : Nat)  (G : Gh) (nx : Nat) (l3 : Option Nat) (l10 : Option Nat) (l12 : Option Nat) : HO (Option Nat) :=
  (l10).bind fun a34 => (xF V.1 G a34 fl_HashMap_Node_value (va_rf l3)).bind fun G36 => hB_J39_putVal_250 V o G36 nx (some a34) l12

def hB_J39_putVal_222 (V : HEn) (o : Nat)  (G : Gh) (nx : Nat) (l3 : Option Nat) (l4 : Int32) (l5 : Int32) (l10 : Option Nat) : HO (Option Nat) :=
  if l10 = none then (hB_J39_putVal_259 V o G nx l5)
  else ((l10).bind fun a39 => (xR G a39 fl_HashMap_Node_value).bind fun r41 => if l4 = 0 then (hB_J39_putVal_244 V o G nx l3 (some a39) r41)
  else (if r41 = none then (hB_J39_putVal_244 V o G nx l3 (some a39) r41)
  else (hB_J39_putVal_250 V o G nx (some a39) r41)))

def hL_J39_putVal_134 (V : HEn) (o : Nat)  : Nat → Gh → Nat → Int32 → Option Nat → Option Nat → Int32 → Int32 → Option Nat → Option Nat → Int32 → HO (Option Nat)
  | 0, _, _, _, _, _, _, _, _, _, _ => none
  | n + 1, G, nx, l1, l2, l3, l4, l5, l6, l7, l12 =>
  (l7).bind fun a45 => (xR G a45 fl_HashMap_Node_next).bind fun r47 => if r47 = none then (cB (hD_J39_putVal_152 V G nx o l1 l2 l3 none) fun r50 G51 c52 => (xF V.1 G51 a45 fl_HashMap_Node_next (va_rf r50)).bind fun G57 => if l12 < 7 then (hB_J39_putVal_222 V o G57 (nx + c52) l3 l4 l5 r47)
  else (if [19, 22].any (gC G57 o) = true then cB (hF_J39_treeifyBin V G57 (nx + c52) o l6 l1) fun y61 G62 c63 => hB_J39_putVal_222 V o G62 ((nx + c52) + c63) l3 l4 l5 r47 else none))
  else ((r47).bind fun a68 => (xI G a68 fl_HashMap_Node_hash).bind fun v70 => if v70 = l1 then ((xR G a68 fl_HashMap_Node_key).bind fun r73 => if r73 = l2 then (hB_J39_putVal_222 V o G nx l3 l4 l5 (some a68))
  else (if l2 = none then (hB_J39_putVal_212 V o (hL_J39_putVal_134 V o n) G nx l1 l2 l3 l4 l5 l6 (some a68) l12)
  else ((l2).bind fun a77 => cB (hD_J39_putVal_203 V G nx a77 r73) fun y79 G80 c81 => if y79 = 0 then (hB_J39_putVal_212 V o (hL_J39_putVal_134 V o n) G80 (nx + c81) l1 (some a77) l3 l4 l5 l6 (some a68) l12)
  else (hB_J39_putVal_222 V o G80 (nx + c81) l3 l4 l5 (some a68)))))
  else (hB_J39_putVal_212 V o (hL_J39_putVal_134 V o n) G nx l1 l2 l3 l4 l5 l6 (some a68) l12))

def hB_J39_putVal_104 (V : HEn) (o : Nat)  (G : Gh) (nx : Nat) (l1 : Int32) (l2 : Option Nat) (l3 : Option Nat) (l4 : Int32) (l5 : Int32) (l6 : Option Nat) (l7 : Option Nat) : HO (Option Nat) :=
  (gin G l7 [21] [20, 23]).bind fun v87 => if v87 = 0 then (hL_J39_putVal_134 V o V.2.2.2.2 G nx l1 l2 l3 l4 l5 l6 l7 0)
  else (if gok G l7 [21] = true then (l7).bind fun a91 => if gC G a91 21 = true then cB (hF_J42_putTreeVal V G nx a91 (some o) l6 l1 l2 l3) fun r94 G95 c96 => hB_J39_putVal_222 V o G95 (nx + c96) l3 l4 l5 r94 else none else none)

def hB_J39_putVal_97 (V : HEn) (o : Nat)  (G : Gh) (nx : Nat) (l3 : Option Nat) (l4 : Int32) (l5 : Int32) (l7 : Option Nat) : HO (Option Nat) :=
  hB_J39_putVal_222 V o G nx l3 l4 l5 l7

def hB_J39_putVal_29 (V : HEn) (o : Nat)  (G : Gh) (nx : Nat) (l1 : Int32) (l2 : Option Nat) (l3 : Option Nat) (l4 : Int32) (l5 : Int32) (l6 : Option Nat) (l8 : Int32) : HO (Option Nat) :=
  (l6).bind fun a101 => (rdR G (V.2.1 4) a101 ((l8 - 1) &&& l1)).bind fun r103 => if r103 = none then (cB (hD_J39_putVal_56 V G nx o l1 l2 l3 none) fun r106 G107 c108 => if gokA G107 V.2.1 r106 [20, 23, 21] = true then (wrR V.1 G107 (V.2.1 4) a101 ((l8 - 1) &&& l1) r106).bind fun G113 => hB_J39_putVal_259 V o G113 (nx + c108) l5 else none)
  else ((r103).bind fun a116 => (xI G a116 fl_HashMap_Node_hash).bind fun v118 => if v118 = l1 then ((xR G a116 fl_HashMap_Node_key).bind fun r121 => if r121 = l2 then (hB_J39_putVal_97 V o G nx l3 l4 l5 (some a116))
  else (if l2 = none then (hB_J39_putVal_104 V o G nx l1 l2 l3 l4 l5 (some a101) (some a116))
  else ((l2).bind fun a125 => cB (hD_J39_putVal_91 V G nx a125 r121) fun y127 G128 c129 => if y127 = 0 then (hB_J39_putVal_104 V o G128 (nx + c129) l1 (some a125) l3 l4 l5 (some a101) (some a116))
  else (hB_J39_putVal_97 V o G128 (nx + c129) l3 l4 l5 (some a116)))))
  else (hB_J39_putVal_104 V o G nx l1 l2 l3 l4 l5 (some a101) (some a116)))

def hB_J39_putVal_19 (V : HEn) (o : Nat)  (G : Gh) (nx : Nat) (l1 : Int32) (l2 : Option Nat) (l3 : Option Nat) (l4 : Int32) (l5 : Int32) : HO (Option Nat) :=
  if [19, 22].any (gC G o) = true then cB (hF_J39_resize V G nx o) fun r136 G137 c138 => (r136).bind fun a143 => (aln G137 (V.2.1 4) a143).bind fun n145 => hB_J39_putVal_29 V o G137 (nx + c138) l1 l2 l3 l4 l5 (some a143) n145 else none

def hF_J39_putVal (V : HEn) (G : Gh) (nx : Nat) (o : Nat) (a0 : Int32) (a1 : Option Nat) (a2 : Option Nat) (a3 : Int32) (a4 : Int32) : HO (Option Nat) :=
  (xR G o fl_HashMap_table).bind fun r247 => if r247 = none then (hB_J39_putVal_19 V o G nx a0 a1 a2 a3 a4)
  else ((r247).bind fun a250 => (aln G (V.2.1 4) a250).bind fun n252 => if n252 = 0 then (hB_J39_putVal_19 V o G nx a0 a1 a2 a3 a4)
  else (hB_J39_putVal_29 V o G nx a0 a1 a2 a3 a4 (some a250) n252))

/-! J39_put -/
def hF_J39_put (V : HEn) (G : Gh) (nx : Nat) (o : Nat) (a0 : Option Nat) (a1 : Option Nat) : HO (Option Nat) :=
  cB (hF_J39_hash V G nx a0) fun y101 G102 c103 => if [19, 22].any (gC G102 o) = true then cB (hF_J39_putVal V G102 (nx + c103) o y101 a0 a1 0 1) fun r109 G110 c111 => some (r109, G110, 0, 0) else none

/-! X8_comes -/
def hB_X8_comes_52 (V : HEn) (o : Nat)  (G : Gh) (nx : Nat)  : HO (Unit) :=
  some ((), G, 0, 0)

def hB_X8_comes_46 (V : HEn) (o : Nat)  (G : Gh) (nx : Nat) (s0 : Option Nat) (s1 : Option Nat) : HO (Unit) :=
  (s0).bind fun a1 => if gC G a1 8 = true then cB (hF_J2_add V G nx a1 s1) fun y4 G5 c6 => hB_X8_comes_52 V o G5 (nx + c6) else none

def hF_X8_comes (V : HEn) (G : Gh) (nx : Nat) (o : Nat) (a0 : Int32) : HO (Unit) :=
  (xR G o fl_RunWatch_Machine_place).bind fun r111 => cB (hF_J23_valueOf V G nx a0) fun r113 G114 c115 => (r111).bind fun a120 => if gC G114 a120 19 = true then cB (hF_J39_containsKey V G114 (nx + c115) a120 r113) fun y123 G124 c125 => if y123 = 0 then ((xR G124 o fl_RunWatch_Machine_place).bind fun r131 => cB (hF_J23_valueOf V G124 ((nx + c115) + c125) a0) fun r133 G134 c135 => (xR G134 o fl_RunWatch_Machine_bits).bind fun r140 => (r140).bind fun a142 => if gC G134 a142 8 = true then cB (hF_J2_size V G134 (((nx + c115) + c125) + c135) a142) fun y145 G146 c147 => cB (hF_J23_valueOf V G146 ((((nx + c115) + c125) + c135) + c147) y145) fun r152 G153 c154 => (r131).bind fun a159 => if gC G153 a159 19 = true then cB (hF_J39_put V G153 (((((nx + c115) + c125) + c135) + c147) + c154) a159 r133 r152) fun r162 G163 c164 => (xR G163 o fl_RunWatch_Machine_bits).bind fun r169 => cB (hF_J23_valueOf V G163 ((((((nx + c115) + c125) + c135) + c147) + c154) + c164) a0) fun r171 G172 c173 => hB_X8_comes_46 V o G172 (((((((nx + c115) + c125) + c135) + c147) + c154) + c164) + c173) r169 r171 else none else none)
  else (hB_X8_comes_52 V o G124 ((nx + c115) + c125)) else none

/-! J23_stringSize -/
def hL_J23_stringSize_16 (V : HEn)  : Nat → Gh → Nat → Int32 → Int32 → Int32 → Int32 → HO (Int32)
  | 0, _, _, _, _, _, _ => none
  | n + 1, G, nx, l0, l1, l2, l3 =>
  if 10 ≤ l3 then (some ((10 + l1), G, 0, 0))
  else (if l0 ≤ l2 then ((hL_J23_stringSize_16 V  n) G nx l0 l1 (10 * l2) (l3 + 1))
  else (some ((l3 + l1), G, 0, 0)))

def hB_J23_stringSize_11 (V : HEn)  (G : Gh) (nx : Nat) (l0 : Int32) (l1 : Int32) : HO (Int32) :=
  hL_J23_stringSize_16 V V.2.2.2.2 G nx l0 l1 (-10) 1

def hF_J23_stringSize (V : HEn) (G : Gh) (nx : Nat) (a0 : Int32) : HO (Int32) :=
  if a0 < 0 then (hB_J23_stringSize_11 V G nx a0 1)
  else (hB_J23_stringSize_11 V G nx (-a0) 0)

/-! J23_getChars -/
def hB_J23_getChars_118 (V : HEn)  (G : Gh) (nx : Nat) (l5 : Int32) : HO (Int32) :=
  some (l5, G, 0, 0)

def hB_J23_getChars_104 (V : HEn)  (G : Gh) (nx : Nat) (l2 : Option Nat) (l5 : Int32) (l6 : Int32) : HO (Int32) :=
  if l6 = 0 then (hB_J23_getChars_118 V G nx l5)
  else ((l2).bind fun a2 => (wrI V.1 G (V.2.1 1) a2 (l5 + (-1)) (vp_nar .byte 45)).bind fun G4 => hB_J23_getChars_118 V G4 nx (l5 + (-1)))

def hL_J23_getChars_22 (V : HEn)  : Nat → Gh → Nat → Int32 → Option Nat → Int32 → Int32 → HO (Int32)
  | 0, _, _, _, _, _, _ => none
  | n + 1, G, nx, l0, l2, l5, l6 =>
  if (-100) < l0 then (((V.2.2.1 2)).bind fun a7 => (rdI G (V.2.1 1) a7 (-l0)).bind fun v9 => (l2).bind fun a11 => (wrI V.1 G (V.2.1 1) a11 (l5 + (-1)) (vp_nar .byte v9)).bind fun G13 => if (-9) ≤ l0 then (hB_J23_getChars_104 V G13 nx (some a11) (l5 + (-1)) l6)
  else (((V.2.2.1 3)).bind fun a16 => (rdI G13 (V.2.1 1) a16 (-l0)).bind fun v18 => (wrI V.1 G13 (V.2.1 1) a11 ((l5 + (-1)) + (-1)) (vp_nar .byte v18)).bind fun G20 => hB_J23_getChars_104 V G20 nx (some a11) ((l5 + (-1)) + (-1)) l6))
  else (((V.2.2.1 2)).bind fun a22 => (rdI G (V.2.1 1) a22 (((l0 / 100) * 100) - l0)).bind fun v24 => (l2).bind fun a26 => (wrI V.1 G (V.2.1 1) a26 (l5 + (-1)) (vp_nar .byte v24)).bind fun G28 => ((V.2.2.1 3)).bind fun a30 => (rdI G28 (V.2.1 1) a30 (((l0 / 100) * 100) - l0)).bind fun v32 => (wrI V.1 G28 (V.2.1 1) a26 ((l5 + (-1)) + (-1)) (vp_nar .byte v32)).bind fun G34 => (hL_J23_getChars_22 V  n) G34 nx (l0 / 100) (some a26) ((l5 + (-1)) + (-1)) l6)

def hB_J23_getChars_12 (V : HEn)  (G : Gh) (nx : Nat) (s0 : Int32) (l0 : Int32) (l2 : Option Nat) (l5 : Int32) : HO (Int32) :=
  if s0 = 0 then (hL_J23_getChars_22 V V.2.2.2.2 G nx (-l0) l2 l5 s0)
  else (hL_J23_getChars_22 V V.2.2.2.2 G nx l0 l2 l5 s0)

def hF_J23_getChars (V : HEn) (G : Gh) (nx : Nat) (a0 : Int32) (a1 : Int32) (a2 : Option Nat) : HO (Int32) :=
  if 0 ≤ a0 then (hB_J23_getChars_12 V G nx 0 a0 a2 a1)
  else (hB_J23_getChars_12 V G nx 1 a0 a2 a1)

/-! J5_append_3 -/
def hF_J5_append_3 (V : HEn) (G : Gh) (nx : Nat) (o : Nat) (a0 : Int32) : HO (Option Nat) :=
  (xI G o fl_AbstractStringBuilder_count).bind fun v101 => cB (hF_J23_stringSize V G nx a0) fun y103 G104 c105 => if gC G104 o 24 = true then cB (hF_J5_ensureCapacityInternal V G104 (nx + c105) o (v101 + y103)) fun y111 G112 c113 => if gC G112 o 24 = true then cB (hF_J5_isLatin1 V G112 ((nx + c105) + c113) o) fun y119 G120 c121 => if y119 = 0 then (none)
  else ((xR G120 o fl_AbstractStringBuilder_value).bind fun r127 => cB (hF_J23_getChars V G120 (((nx + c105) + c113) + c121) a0 (v101 + y103) r127) fun y129 G130 c131 => (xF V.1 G130 o fl_AbstractStringBuilder_count (.int (v101 + y103))).bind fun G136 => some ((some o), G136, 0, 0)) else none else none

/-! J6_append_3 -/
def hF_J6_append_3 (V : HEn) (G : Gh) (nx : Nat) (o : Nat) (a0 : Int32) : HO (Option Nat) :=
  if gC G o 24 = true then cB (hF_J5_append_3 V G nx o a0) fun r102 G103 c104 => some ((some o), G103, 0, 0) else none

/-! J39_get -/
def hB_J39_get_18 (V : HEn) (o : Nat)  (G : Gh) (nx : Nat) (s0 : Option Nat) : HO (Option Nat) :=
  some (s0, G, 0, 0)

def hF_J39_get (V : HEn) (G : Gh) (nx : Nat) (o : Nat) (a0 : Option Nat) : HO (Option Nat) :=
  if [19, 22].any (gC G o) = true then cB (hF_J39_getNode V G nx o a0) fun r102 G103 c104 => if r102 = none then (hB_J39_get_18 V o G103 (nx + c104) none)
  else ((r102).bind fun a110 => (xR G103 a110 fl_HashMap_Node_value).bind fun r112 => hB_J39_get_18 V o G103 (nx + c104) r112) else none

/-! X8_leads -/
def hB_X8_leads_72 (V : HEn) (o : Nat)  (G : Gh) (nx : Nat) (s0 : Int32) : HO (Int32) :=
  some (s0, G, 0, 0)

def hB_X8_leads_63 (V : HEn) (o : Nat)  (G : Gh) (nx : Nat) (s0 : Option Nat) (s1 : Option Nat) : HO (Int32) :=
  (s0).bind fun a1 => if gC G a1 19 = true then cB (hF_J39_get V G nx a1 s1) fun r4 G5 c6 => if gok G5 r4 [26] = true then (r4).bind fun a12 => if gC G5 a12 26 = true then cB (hF_J23_intValue V G5 (nx + c6) a12) fun y15 G16 c17 => hB_X8_leads_72 V o G16 ((nx + c6) + c17) y15 else none else none else none

def hF_X8_leads (V : HEn) (G : Gh) (nx : Nat) (o : Nat) (a0 : Int32) (a1 : Int32) : HO (Int32) :=
  (xR G o fl_RunWatch_Machine_plan).bind fun r122 => (xR G o fl_RunWatch_Machine_bits).bind fun r124 => (r124).bind fun a126 => if gC G a126 8 = true then cB (hF_J2_get V G nx a126 a0) fun r129 G130 c131 => if gok G130 r129 [26] = true then (r129).bind fun a137 => if gC G130 a137 26 = true then cB (hF_J23_intValue V G130 (nx + c131) a137) fun y140 G141 c142 => (r122).bind fun a147 => if gC G141 a147 2 = true then cB (hF_X2_met V G141 ((nx + c131) + c142) a147 y140 a1) fun y150 G151 c152 => if y150 = 0 then ((xR G151 o fl_RunWatch_Machine_place).bind fun r158 => (xR G151 o fl_RunWatch_Machine_plan).bind fun r160 => (xR G151 o fl_RunWatch_Machine_bits).bind fun r162 => (r162).bind fun a164 => if gC G151 a164 8 = true then cB (hF_J2_get V G151 (((nx + c131) + c142) + c152) a164 a0) fun r167 G168 c169 => if gok G168 r167 [26] = true then (r167).bind fun a175 => if gC G168 a175 26 = true then cB (hF_J23_intValue V G168 ((((nx + c131) + c142) + c152) + c169) a175) fun y178 G179 c180 => (r160).bind fun a185 => if gC G179 a185 2 = true then cB (hF_X2_behind V G179 (((((nx + c131) + c142) + c152) + c169) + c180) a185 y178 a1) fun y188 G189 c190 => cB (hF_J23_valueOf V G189 ((((((nx + c131) + c142) + c152) + c169) + c180) + c190) y188) fun r195 G196 c197 => hB_X8_leads_63 V o G196 (((((((nx + c131) + c142) + c152) + c169) + c180) + c190) + c197) r158 r195 else none else none else none else none)
  else (hB_X8_leads_72 V o G151 (((nx + c131) + c142) + c152) (-5)) else none else none else none else none

/-! J12_canEncode -/
def hB_J12_canEncode_12 (V : HEn)  (G : Gh) (nx : Nat) (s0 : Int32) : HO (Int32) :=
  if vp_nar .boolean s0 = s0 then some (s0, G, 0, 0) else none

def hF_J12_canEncode (V : HEn) (G : Gh) (nx : Nat) (a0 : Int32) : HO (Int32) :=
  if 255 < a0 then (hB_J12_canEncode_12 V G nx 0)
  else (hB_J12_canEncode_12 V G nx 1)

/-! J5_append -/
def hB_J5_append_45 (V : HEn) (o : Nat)  (G : Gh) (nx : Nat)  : HO (Option Nat) :=
  none

def hF_J5_append (V : HEn) (G : Gh) (nx : Nat) (o : Nat) (a0 : Int32) : HO (Option Nat) :=
  (xI G o fl_AbstractStringBuilder_count).bind fun v101 => if gC G o 24 = true then cB (hF_J5_ensureCapacityInternal V G nx o (v101 + 1)) fun y104 G105 c106 => if gC G105 o 24 = true then cB (hF_J5_isLatin1 V G105 (nx + c106) o) fun y112 G113 c114 => if y112 = 0 then (hB_J5_append_45 V o G113 ((nx + c106) + c114))
  else (cB (hF_J12_canEncode V G113 ((nx + c106) + c114) a0) fun y120 G121 c122 => if y120 = 0 then (hB_J5_append_45 V o G121 (((nx + c106) + c114) + c122))
  else ((xR G121 o fl_AbstractStringBuilder_value).bind fun r128 => (xI G121 o fl_AbstractStringBuilder_count).bind fun v130 => (xF V.1 G121 o fl_AbstractStringBuilder_count (.int (v130 + 1))).bind fun G132 => (r128).bind fun a134 => (wrI V.1 G132 (V.2.1 1) a134 v130 (vp_nar .byte a0.toInt8.toInt32)).bind fun G136 => some ((some o), G136, 0, 0))) else none else none

/-! J6_append -/
def hF_J6_append (V : HEn) (G : Gh) (nx : Nat) (o : Nat) (a0 : Int32) : HO (Option Nat) :=
  if gC G o 24 = true then cB (hF_J5_append V G nx o a0) fun r102 G103 c104 => some ((some o), G103, 0, 0) else none

/-! J5_getValue -/
def hF_J5_getValue (V : HEn) (G : Gh) (nx : Nat) (o : Nat) : HO (Option Nat) :=
  (xR G o fl_AbstractStringBuilder_value).bind fun r101 => some (r101, G, 0, 0)

/-! J11_checkLength -/
def hF_J11_checkLength (V : HEn) (G : Gh) (nx : Nat) (a0 : Int32) (a1 : Int32) : HO (Unit) :=
  if a0 ≤ a1 then (some ((), G, 0, 0))
  else (none)

/-! J11_copyOfRangeByte -/
def hF_J11_copyOfRangeByte (V : HEn) (G : Gh) (nx : Nat) (a0 : Option Nat) (a1 : Int32) (a2 : Int32) : HO (Option Nat) :=
  cB (hF_J11_checkLength V G nx a1 a2) fun y101 G102 c103 => (gn (a2 - a1)).bind fun n108 => tick 1 n108 ((a0).bind fun a112 => (aln (gset G102 (nx + c103) (.inl (V.2.1 1, n108, .inl (fun _ => 0)))) (V.2.1 1) a112).bind fun n114 => (cpI V.1 (gset G102 (nx + c103) (.inl (V.2.1 1, n108, .inl (fun _ => 0)))) (V.2.1 1) a112 a1 (nx + c103) 0 (if (a2 - a1) < (n114 - a1) then (a2 - a1) else (n114 - a1))).bind fun G116 => some ((some (nx + c103)), G116, 0, 0))

/-! J11_copyOfRange -/
def hB_J11_copyOfRange_10 (V : HEn)  (G : Gh) (nx : Nat) (l0 : Option Nat) (l1 : Int32) (l2 : Int32) : HO (Option Nat) :=
  cB (hF_J11_copyOfRangeByte V G nx l0 l1 l2) fun r1 G2 c3 => some (r1, G2, 0, 0)

def hF_J11_copyOfRange (V : HEn) (G : Gh) (nx : Nat) (a0 : Option Nat) (a1 : Int32) (a2 : Int32) : HO (Option Nat) :=
  if a1 = 0 then ((a0).bind fun a109 => (aln G (V.2.1 1) a109).bind fun n111 => if a2 = n111 then ((clB G (V.2.1 1) a109).bind fun x114 => tick 1 x114.1 ((aln (gset G nx (.inl (V.2.1 1, x114.1, .inl x114.2))) (V.2.1 1) nx).bind fun n118 => some ((some nx), (gset G nx (.inl (V.2.1 1, x114.1, .inl x114.2))), 0, 0)))
  else (hB_J11_copyOfRange_10 V G nx (some a109) a1 a2))
  else (hB_J11_copyOfRange_10 V G nx a0 a1 a2)

/-! J7_init_2 -/
def hB_J7_init_2_97 (V : HEn) (o : Nat)  (G : Gh) (nx : Nat)  : HO (Unit) :=
  some ((), G, 0, 0)

def hB_J7_init_2_79 (V : HEn) (o : Nat)  (G : Gh) (nx : Nat) (l3 : Option Nat) (l4 : Int32) : HO (Unit) :=
  (xF V.1 G o fl_String_coder (.int 1)).bind fun G1 => cB (hF_J11_copyOfRange V G1 nx l3 0 (l4 <<< (1 &&& 31))) fun r3 G4 c5 => (xF V.1 G4 o fl_String_value (va_rf r3)).bind fun G10 => hB_J7_init_2_97 V o G10 (nx + c5)

def hF_J7_init_2 (V : HEn) (G : Gh) (nx : Nat) (o : Nat) (a0 : Option Nat) (a1 : Option Nat) : HO (Unit) :=
  (a0).bind fun a112 => if gC G a112 24 = true then cB (hF_J5_getValue V G nx a112) fun r115 G116 c117 => if gC G116 a112 24 = true then cB (hF_J6_length V G116 (nx + c117) a112) fun y123 G124 c125 => if gC G124 a112 24 = true then cB (hF_J5_isLatin1 V G124 ((nx + c117) + c125) a112) fun y131 G132 c133 => if y131 = 0 then (if (1 : Int32) = 0 then (hB_J7_init_2_79 V o G132 (((nx + c117) + c125) + c133) r115 y123)
  else ((xI G132 a112 fl_AbstractStringBuilder_maybeLatin1).bind fun v140 => if v140 = 0 then (hB_J7_init_2_79 V o G132 (((nx + c117) + c125) + c133) r115 y123)
  else (none)))
  else ((xF V.1 G132 o fl_String_coder (.int 0)).bind fun G143 => cB (hF_J11_copyOfRange V G143 (((nx + c117) + c125) + c133) r115 0 y123) fun r145 G146 c147 => (xF V.1 G146 o fl_String_value (va_rf r145)).bind fun G152 => hB_J7_init_2_97 V o G152 ((((nx + c117) + c125) + c133) + c147)) else none else none else none

/-! J7_init -/
def hF_J7_init (V : HEn) (G : Gh) (nx : Nat) (o : Nat) (a0 : Option Nat) : HO (Unit) :=
  cB (hF_J7_init_2 V G nx o a0 none) fun y101 G102 c103 => some ((), G102, 0, 0)

/-! J6_toString -/
def hF_J6_toString (V : HEn) (G : Gh) (nx : Nat) (o : Nat) : HO (Option Nat) :=
  tick 1 4 (cB (hF_J7_init V (gset G nx (.inr (25, [.null, .int 0, .int 0, .int 0]))) (nx + 1) nx (some o)) fun y103 G104 c105 => some ((some nx), G104, 0, 0))

/-! J39_size -/
def hF_J39_size (V : HEn) (G : Gh) (nx : Nat) (o : Nat) : HO (Int32) :=
  (xI G o fl_HashMap_size).bind fun v101 => some (v101, G, 0, 0)

/-! X8_parts -/
def hB_X8_parts_132 (V : HEn) (o : Nat) (k18 : Gh → Nat → Option Nat → Option Nat → Int32 → HO (Int32)) (G : Gh) (nx : Nat) (l1 : Option Nat) (l2 : Option Nat) (l3 : Int32) (l5 : Option Nat) : HO (Int32) :=
  (l1).bind fun a1 => if gC G a1 19 = true then cB (hF_J39_get V G nx a1 l5) fun r4 G5 c6 => if gok G5 r4 [26] = true then (r4).bind fun a12 => if gC G5 a12 26 = true then cB (hF_J23_intValue V G5 (nx + c6) a12) fun y15 G16 c17 => (l2).bind fun a22 => (wrI V.1 G16 (V.2.1 0) a22 l3 y15).bind fun G24 => k18 G24 ((nx + c6) + c17) (some a1) (some a22) (l3 + 1) else none else none else none

def hB_X8_parts_92 (V : HEn) (o : Nat) (k18 : Gh → Nat → Option Nat → Option Nat → Int32 → HO (Int32)) (k51 : Gh → Nat → Option Nat → Option Nat → Int32 → Option Nat → Int32 → HO (Int32)) (G : Gh) (nx : Nat) (s0 : Option Nat) (s1 : Int32) (l1 : Option Nat) (l2 : Option Nat) (l3 : Int32) (l4 : Option Nat) (l5 : Int32) : HO (Int32) :=
  (s0).bind fun a26 => if gC G a26 24 = true then cB (hF_J6_append_3 V G nx a26 s1) fun r29 G30 c31 => k51 G30 (nx + c31) l1 l2 l3 l4 (l5 + 1) else none

def hL_X8_parts_51 (V : HEn) (o : Nat) (k18 : Gh → Nat → Option Nat → Option Nat → Int32 → HO (Int32)) : Nat → Gh → Nat → Option Nat → Option Nat → Int32 → Option Nat → Int32 → HO (Int32)
  | 0, _, _, _, _, _, _, _ => none
  | n + 1, G, nx, l1, l2, l3, l4, l5 =>
  if 5 ≤ l5 then ((l4).bind fun a37 => if gC G a37 24 = true then cB (hF_J6_toString V G nx a37) fun r40 G41 c42 => (l1).bind fun a47 => if gC G41 a47 19 = true then cB (hF_J39_containsKey V G41 (nx + c42) a47 r40) fun y50 G51 c52 => if y50 = 0 then (if gC G51 a47 19 = true then cB (hF_J39_size V G51 ((nx + c42) + c52) a47) fun y59 G60 c61 => cB (hF_J23_valueOf V G60 (((nx + c42) + c52) + c61) y59) fun r66 G67 c68 => if gC G67 a47 19 = true then cB (hF_J39_put V G67 ((((nx + c42) + c52) + c61) + c68) a47 r40 r66) fun r74 G75 c76 => hB_X8_parts_132 V o k18 G75 (((((nx + c42) + c52) + c61) + c68) + c76) (some a47) l2 l3 r40 else none else none)
  else (hB_X8_parts_132 V o k18 G51 ((nx + c42) + c52) (some a47) l2 l3 r40) else none else none)
  else (if gC G o 7 = true then cB (hF_X8_leads V G nx o l3 l5) fun y82 G83 c84 => (l4).bind fun a89 => if gC G83 a89 24 = true then cB (hF_J6_append V G83 (nx + c84) a89 32) fun r92 G93 c94 => if y82 = (-5) then (hB_X8_parts_92 V o k18 (hL_X8_parts_51 V o k18 n) G93 ((nx + c84) + c94) r92 (-5) l1 l2 l3 (some a89) l5)
  else ((xR G93 o fl_RunWatch_Machine_part).bind fun r100 => (r100).bind fun a102 => (rdI G93 (V.2.1 0) a102 y82).bind fun v104 => hB_X8_parts_92 V o k18 (hL_X8_parts_51 V o k18 n) G93 ((nx + c84) + c94) r92 v104 l1 l2 l3 (some a89) l5) else none else none)

def hL_X8_parts_18 (V : HEn) (o : Nat)  : Nat → Gh → Nat → Option Nat → Option Nat → Int32 → HO (Int32)
  | 0, _, _, _, _, _ => none
  | n + 1, G, nx, l1, l2, l3 =>
  (xR G o fl_RunWatch_Machine_part).bind fun r106 => (r106).bind fun a108 => (aln G (V.2.1 0) a108).bind fun n110 => if n110 ≤ l3 then ((xF V.1 G o fl_RunWatch_Machine_part (va_rf l2)).bind fun G113 => (l1).bind fun a115 => if gC G113 a115 19 = true then cB (hF_J39_size V G113 nx a115) fun y118 G119 c120 => some (y118, G119, 0, 0) else none)
  else (tick 1 4 (cB (hF_J6_init V (gset G nx (.inr (24, [.null, .int 0, .int 0, .int 0]))) (nx + 1) nx) fun y127 G128 c129 => (xR G128 o fl_RunWatch_Machine_part).bind fun r134 => (r134).bind fun a136 => (rdI G128 (V.2.1 0) a136 l3).bind fun v138 => if gC G128 nx 24 = true then cB (hF_J6_append_3 V G128 ((nx + 1) + c129) nx v138) fun r141 G142 c143 => hL_X8_parts_51 V o (hL_X8_parts_18 V o n) V.2.2.2.2 G142 (((nx + 1) + c129) + c143) l1 l2 l3 (some nx) 0 else none))

def hF_X8_parts (V : HEn) (G : Gh) (nx : Nat) (o : Nat) : HO (Int32) :=
  tick 1 8 (cB (hF_J39_init V (gset G nx (.inr (19, [.null, .null, .null, .null, .int 0, .int 0, .int 0, .float 0]))) (nx + 1) nx) fun y250 G251 c252 => (xR G251 o fl_RunWatch_Machine_part).bind fun r257 => (r257).bind fun a259 => (aln G251 (V.2.1 0) a259).bind fun n261 => (gn n261).bind fun n263 => tick 1 n263 (hL_X8_parts_18 V o V.2.2.2.2 (gset G251 ((nx + 1) + c252) (.inl (V.2.1 0, n263, .inl (fun _ => 0)))) (((nx + 1) + c252) + 1) (some nx) (some ((nx + 1) + c252)) 0))

/-! X8_one -/
def hL_X8_one_2 (V : HEn) (o : Nat)  : Nat → Gh → Nat → Int32 → Int32 → HO (Int32)
  | 0, _, _, _, _ => none
  | n + 1, G, nx, l1, l2 =>
  (xR G o fl_RunWatch_Machine_part).bind fun r1 => (r1).bind fun a3 => (rdI G (V.2.1 0) a3 l2).bind fun v5 => if v5 = l1 then (some (l2, G, 0, 0))
  else ((hL_X8_one_2 V o n) G nx l1 (l2 + 1))

def hF_X8_one (V : HEn) (G : Gh) (nx : Nat) (o : Nat) (a0 : Int32) : HO (Int32) :=
  hL_X8_one_2 V o V.2.2.2.2 G nx a0 0

/-! J46_get -/
def hB_J46_get_24 (V : HEn) (o : Nat)  (G : Gh) (nx : Nat) (l2 : Option Nat) : HO (Option Nat) :=
  (l2).bind fun a1 => (xR G a1 fl_HashMap_Node_value).bind fun r3 => some (r3, G, 0, 0)

def hF_J46_get (V : HEn) (G : Gh) (nx : Nat) (o : Nat) (a0 : Option Nat) : HO (Option Nat) :=
  if gC G o 22 = true then cB (hF_J39_getNode V G nx o a0) fun r106 G107 c108 => if r106 = none then (some (none, G107, 0, 0))
  else ((xI G107 o fl_LinkedHashMap_accessOrder).bind fun v114 => if v114 = 0 then (hB_J46_get_24 V o G107 (nx + c108) r106)
  else (if gC G107 o 22 = true then cB (hF_J46_afterNodeAccess V G107 (nx + c108) o r106) fun y118 G119 c120 => hB_J46_get_24 V o G119 ((nx + c108) + c120) r106 else none)) else none

/-! X8_numbers -/
def hB_X8_numbers_205 (V : HEn) (o : Nat) (k47 : Gh → Nat → Option Nat → Int32 → HO (Unit)) (k64 : Gh → Nat → Option Nat → Int32 → Option Nat → Int32 → HO (Unit)) (G : Gh) (nx : Nat) (s0 : Option Nat) (s1 : Int32) (s2 : Int32) (l1 : Option Nat) (l2 : Int32) (l3 : Option Nat) (l4 : Int32) : HO (Unit) :=
  (s0).bind fun a1 => (wrI V.1 G (V.2.1 0) a1 s1 s2).bind fun G3 => k64 G3 nx l1 l2 l3 (l4 + 1)

def hB_X8_numbers_167 (V : HEn) (o : Nat) (k47 : Gh → Nat → Option Nat → Int32 → HO (Unit)) (k64 : Gh → Nat → Option Nat → Int32 → Option Nat → Int32 → HO (Unit)) (G : Gh) (nx : Nat) (l1 : Option Nat) (l2 : Int32) (l3 : Option Nat) (l4 : Int32) (l5 : Int32) : HO (Unit) :=
  if l5 = (-5) then (hB_X8_numbers_205 V o k47 k64 G nx l3 l4 (-5) l1 l2 l3 l4)
  else ((xR G o fl_RunWatch_Machine_number).bind fun r6 => (xR G o fl_RunWatch_Machine_part).bind fun r8 => (r8).bind fun a10 => (rdI G (V.2.1 0) a10 l5).bind fun v12 => cB (hF_J23_valueOf V G nx v12) fun r14 G15 c16 => (r6).bind fun a21 => if gC G15 a21 22 = true then cB (hF_J46_get V G15 (nx + c16) a21 r14) fun r24 G25 c26 => if gok G25 r24 [26] = true then (r24).bind fun a32 => if gC G25 a32 26 = true then cB (hF_J23_intValue V G25 ((nx + c16) + c26) a32) fun y35 G36 c37 => hB_X8_numbers_205 V o k47 k64 G36 (((nx + c16) + c26) + c37) l3 l4 y35 l1 l2 l3 l4 else none else none else none)

def hB_X8_numbers_136 (V : HEn) (o : Nat) (k47 : Gh → Nat → Option Nat → Int32 → HO (Unit)) (k64 : Gh → Nat → Option Nat → Int32 → Option Nat → Int32 → HO (Unit)) (G : Gh) (nx : Nat) (s0 : Option Nat) (s1 : Option Nat) (l1 : Option Nat) (l2 : Int32) (l3 : Option Nat) (l4 : Int32) (l5 : Int32) : HO (Unit) :=
  (xR G o fl_RunWatch_Machine_number).bind fun r42 => (r42).bind fun a44 => if gC G a44 22 = true then cB (hF_J39_size V G nx a44) fun y47 G48 c49 => cB (hF_J23_valueOf V G48 (nx + c49) y47) fun r54 G55 c56 => (s0).bind fun a61 => if gC G55 a61 22 = true then cB (hF_J39_put V G55 ((nx + c49) + c56) a61 s1 r54) fun r64 G65 c66 => (xR G65 o fl_RunWatch_Machine_part).bind fun r71 => (r71).bind fun a73 => (rdI G65 (V.2.1 0) a73 l5).bind fun v75 => cB (hF_J23_valueOf V G65 (((nx + c49) + c56) + c66) v75) fun r77 G78 c79 => (l1).bind fun a84 => if gC G78 a84 8 = true then cB (hF_J2_add V G78 ((((nx + c49) + c56) + c66) + c79) a84 r77) fun y87 G88 c89 => hB_X8_numbers_167 V o k47 k64 G88 (((((nx + c49) + c56) + c66) + c79) + c89) (some a84) l2 l3 l4 l5 else none else none else none

def hL_X8_numbers_64 (V : HEn) (o : Nat) (k47 : Gh → Nat → Option Nat → Int32 → HO (Unit)) : Nat → Gh → Nat → Option Nat → Int32 → Option Nat → Int32 → HO (Unit)
  | 0, _, _, _, _, _, _ => none
  | n + 1, G, nx, l1, l2, l3, l4 =>
  if 5 ≤ l4 then ((xR G o fl_RunWatch_Machine_steps).bind fun r95 => (r95).bind fun a97 => if gC G a97 8 = true then cB (hF_J2_add V G nx a97 l3) fun y100 G101 c102 => k47 G101 (nx + c102) l1 (l2 + 1) else none)
  else ((l1).bind fun a107 => if gC G a107 8 = true then cB (hF_J2_get V G nx a107 l2) fun r110 G111 c112 => if gok G111 r110 [26] = true then (r110).bind fun a118 => if gC G111 a118 26 = true then cB (hF_J23_intValue V G111 (nx + c112) a118) fun y121 G122 c123 => if gC G122 o 7 = true then cB (hF_X8_one V G122 ((nx + c112) + c123) o y121) fun y129 G130 c131 => if gC G130 o 7 = true then cB (hF_X8_leads V G130 (((nx + c112) + c123) + c131) o y129 l4) fun y137 G138 c139 => if y137 = (-5) then (hB_X8_numbers_167 V o k47 (hL_X8_numbers_64 V o k47 n) G138 ((((nx + c112) + c123) + c131) + c139) (some a107) l2 l3 l4 y137)
  else ((xR G138 o fl_RunWatch_Machine_number).bind fun r145 => (xR G138 o fl_RunWatch_Machine_part).bind fun r147 => (r147).bind fun a149 => (rdI G138 (V.2.1 0) a149 y137).bind fun v151 => cB (hF_J23_valueOf V G138 ((((nx + c112) + c123) + c131) + c139) v151) fun r153 G154 c155 => (r145).bind fun a160 => if gC G154 a160 22 = true then cB (hF_J39_containsKey V G154 (((((nx + c112) + c123) + c131) + c139) + c155) a160 r153) fun y163 G164 c165 => if y163 = 0 then ((xR G164 o fl_RunWatch_Machine_number).bind fun r171 => (xR G164 o fl_RunWatch_Machine_part).bind fun r173 => (r173).bind fun a175 => (rdI G164 (V.2.1 0) a175 y137).bind fun v177 => cB (hF_J23_valueOf V G164 ((((((nx + c112) + c123) + c131) + c139) + c155) + c165) v177) fun r179 G180 c181 => hB_X8_numbers_136 V o k47 (hL_X8_numbers_64 V o k47 n) G180 (((((((nx + c112) + c123) + c131) + c139) + c155) + c165) + c181) r171 r179 (some a107) l2 l3 l4 y137)
  else (hB_X8_numbers_167 V o k47 (hL_X8_numbers_64 V o k47 n) G164 ((((((nx + c112) + c123) + c131) + c139) + c155) + c165) (some a107) l2 l3 l4 y137) else none) else none else none else none else none else none)

def hL_X8_numbers_47 (V : HEn) (o : Nat)  : Nat → Gh → Nat → Option Nat → Int32 → HO (Unit)
  | 0, _, _, _, _ => none
  | n + 1, G, nx, l1, l2 =>
  (l1).bind fun a186 => if gC G a186 8 = true then cB (hF_J2_size V G nx a186) fun y189 G190 c191 => if y189 ≤ l2 then (some ((), G190, 0, 0))
  else ((gn 5).bind fun n197 => tick 1 n197 (hL_X8_numbers_64 V o (hL_X8_numbers_47 V o n) V.2.2.2.2 (gset G190 (nx + c191) (.inl (V.2.1 0, n197, .inl (fun _ => 0)))) ((nx + c191) + 1) (some a186) l2 (some (nx + c191)) 0)) else none

def hF_X8_numbers (V : HEn) (G : Gh) (nx : Nat) (o : Nat) : HO (Unit) :=
  tick 1 3 (cB (hF_J2_init V (gset G nx (.inr (8, [.int 0, .null, .int 0]))) (nx + 1) nx) fun y303 G304 c305 => (xR G304 o fl_RunWatch_Machine_number).bind fun r310 => (xR G304 o fl_RunWatch_Machine_part).bind fun r312 => (r312).bind fun a314 => (rdI G304 (V.2.1 0) a314 0).bind fun v316 => cB (hF_J23_valueOf V G304 ((nx + 1) + c305) v316) fun r318 G319 c320 => cB (hF_J23_valueOf V G319 (((nx + 1) + c305) + c320) 0) fun r325 G326 c327 => (r310).bind fun a332 => if gC G326 a332 22 = true then cB (hF_J39_put V G326 ((((nx + 1) + c305) + c320) + c327) a332 r318 r325) fun r335 G336 c337 => (xR G336 o fl_RunWatch_Machine_part).bind fun r342 => (r342).bind fun a344 => (rdI G336 (V.2.1 0) a344 0).bind fun v346 => cB (hF_J23_valueOf V G336 (((((nx + 1) + c305) + c320) + c327) + c337) v346) fun r348 G349 c350 => if gC G349 nx 8 = true then cB (hF_J2_add V G349 ((((((nx + 1) + c305) + c320) + c327) + c337) + c350) nx r348) fun y356 G357 c358 => hL_X8_numbers_47 V o V.2.2.2.2 G357 (((((((nx + 1) + c305) + c320) + c327) + c337) + c350) + c358) (some nx) 0 else none else none)

/-! X8_init -/
def hL_X8_init_160 (V : HEn) (o : Nat)  : Nat → Gh → Nat → Int32 → Int32 → HO (Unit)
  | 0, _, _, _, _ => none
  | n + 1, G, nx, l2, l3 =>
  if l3 ≤ l2 then (if gC G o 7 = true then cB (hF_X8_numbers V G nx o) fun y3 G4 c5 => some ((), G4, 0, 0) else none)
  else (if gC G o 7 = true then cB (hF_X8_parts V G nx o) fun y11 G12 c13 => (hL_X8_init_160 V o n) G12 (nx + c13) l3 y11 else none)

def hB_X8_init_129 (V : HEn) (o : Nat) (k60 : Gh → Nat → Option Nat → Int32 → HO (Unit)) (k75 : Gh → Nat → Option Nat → Int32 → Int32 → HO (Unit)) (G : Gh) (nx : Nat) (l1 : Option Nat) (l2 : Int32) (l3 : Int32) : HO (Unit) :=
  k75 G nx l1 l2 (l3 + 1)

def hL_X8_init_75 (V : HEn) (o : Nat) (k60 : Gh → Nat → Option Nat → Int32 → HO (Unit)) : Nat → Gh → Nat → Option Nat → Int32 → Int32 → HO (Unit)
  | 0, _, _, _, _, _ => none
  | n + 1, G, nx, l1, l2, l3 =>
  if 5 ≤ l3 then (k60 G nx l1 (l2 + 1))
  else ((xR G o fl_RunWatch_Machine_bits).bind fun r19 => (r19).bind fun a21 => if gC G a21 8 = true then cB (hF_J2_get V G nx a21 l2) fun r24 G25 c26 => if gok G25 r24 [26] = true then (r24).bind fun a32 => if gC G25 a32 26 = true then cB (hF_J23_intValue V G25 (nx + c26) a32) fun y35 G36 c37 => (l1).bind fun a42 => if gC G36 a42 2 = true then cB (hF_X2_met V G36 ((nx + c26) + c37) a42 y35 l3) fun y45 G46 c47 => if y45 = 0 then ((xR G46 o fl_RunWatch_Machine_bits).bind fun r53 => (r53).bind fun a55 => if gC G46 a55 8 = true then cB (hF_J2_get V G46 (((nx + c26) + c37) + c47) a55 l2) fun r58 G59 c60 => if gok G59 r58 [26] = true then (r58).bind fun a66 => if gC G59 a66 26 = true then cB (hF_J23_intValue V G59 ((((nx + c26) + c37) + c47) + c60) a66) fun y69 G70 c71 => if gC G70 a42 2 = true then cB (hF_X2_behind V G70 (((((nx + c26) + c37) + c47) + c60) + c71) a42 y69 l3) fun y77 G78 c79 => if gC G78 o 7 = true then cB (hF_X8_comes V G78 ((((((nx + c26) + c37) + c47) + c60) + c71) + c79) o y77) fun y85 G86 c87 => hB_X8_init_129 V o k60 (hL_X8_init_75 V o k60 n) G86 (((((((nx + c26) + c37) + c47) + c60) + c71) + c79) + c87) (some a42) l2 l3 else none else none else none else none else none)
  else (hB_X8_init_129 V o k60 (hL_X8_init_75 V o k60 n) G46 (((nx + c26) + c37) + c47) (some a42) l2 l3) else none else none else none else none)

def hL_X8_init_60 (V : HEn) (o : Nat)  : Nat → Gh → Nat → Option Nat → Int32 → HO (Unit)
  | 0, _, _, _, _ => none
  | n + 1, G, nx, l1, l2 =>
  (xR G o fl_RunWatch_Machine_bits).bind fun r92 => (r92).bind fun a94 => if gC G a94 8 = true then cB (hF_J2_size V G nx a94) fun y97 G98 c99 => if y97 ≤ l2 then ((xR G98 o fl_RunWatch_Machine_bits).bind fun r105 => (r105).bind fun a107 => if gC G98 a107 8 = true then cB (hF_J2_size V G98 (nx + c99) a107) fun y110 G111 c112 => (gn y110).bind fun n117 => tick 1 n117 ((xF V.1 (gset G111 ((nx + c99) + c112) (.inl (V.2.1 0, n117, .inl (fun _ => 0)))) o fl_RunWatch_Machine_part (va_rf (some ((nx + c99) + c112)))).bind fun G121 => hL_X8_init_160 V o V.2.2.2.2 G121 (((nx + c99) + c112) + 1) 0 1) else none)
  else (hL_X8_init_75 V o (hL_X8_init_60 V o n) V.2.2.2.2 G98 (nx + c99) l1 l2 0) else none

def hB_X8_init_34 (V : HEn) (o : Nat)  (G : Gh) (nx : Nat) (s0 : Option Nat) (s1 : Option Nat) (l1 : Option Nat) : HO (Unit) :=
  (s0).bind fun a123 => (xF V.1 G a123 fl_RunWatch_Machine_steps (va_rf s1)).bind fun G125 => tick 1 12 (cB (hF_J46_init V (gset G125 nx (.inr (22, [.null, .null, .null, .null, .int 0, .int 0, .int 0, .float 0, .null, .null, .int 0, .int 0]))) (nx + 1) nx) fun y129 G130 c131 => (xF V.1 G130 o fl_RunWatch_Machine_number (va_rf (some nx))).bind fun G136 => (xF V.1 G136 o fl_RunWatch_Machine_plan (va_rf l1)).bind fun G138 => if gC G138 o 7 = true then cB (hF_X8_comes V G138 ((nx + 1) + c131) o 0) fun y141 G142 c143 => hL_X8_init_60 V o V.2.2.2.2 G142 (((nx + 1) + c131) + c143) l1 0 else none)

def hF_X8_init (V : HEn) (G : Gh) (nx : Nat) (o : Nat) (a0 : Option Nat) : HO (Unit) :=
  tick 1 3 (cB (hF_J2_init V (gset G nx (.inr (8, [.int 0, .null, .int 0]))) (nx + 1) nx) fun y250 G251 c252 => (xF V.1 G251 o fl_RunWatch_Machine_bits (va_rf (some nx))).bind fun G257 => tick 1 8 (cB (hF_J39_init V (gset G257 ((nx + 1) + c252) (.inr (19, [.null, .null, .null, .null, .int 0, .int 0, .int 0, .float 0]))) (((nx + 1) + c252) + 1) ((nx + 1) + c252)) fun y261 G262 c263 => (xF V.1 G262 o fl_RunWatch_Machine_place (va_rf (some ((nx + 1) + c252)))).bind fun G268 => tick 1 3 (cB (hF_J2_init V (gset G268 ((((nx + 1) + c252) + 1) + c263) (.inr (8, [.int 0, .null, .int 0]))) (((((nx + 1) + c252) + 1) + c263) + 1) ((((nx + 1) + c252) + 1) + c263)) fun y272 G273 c274 => hB_X8_init_34 V o G273 ((((((nx + 1) + c252) + 1) + c263) + 1) + c274) (some o) (some ((((nx + 1) + c252) + 1) + c263)) a0)))

/-! X2_machine -/
def hB_X2_machine_19 (V : HEn) (o : Nat)  (G : Gh) (nx : Nat)  : HO (Option Nat) :=
  (xR G o fl_RunWatch_Plan_machine).bind fun r1 => some (r1, G, 0, 0)

def hF_X2_machine (V : HEn) (G : Gh) (nx : Nat) (o : Nat) : HO (Option Nat) :=
  (xR G o fl_RunWatch_Plan_machine).bind fun r103 => if r103 = none then (tick 1 6 (cB (hF_X8_init V (gset G nx (.inr (7, [.null, .null, .null, .null, .null, .null]))) (nx + 1) nx (some o)) fun y108 G109 c110 => (xF V.1 G109 o fl_RunWatch_Plan_machine (va_rf (some nx))).bind fun G115 => hB_X2_machine_19 V o G115 ((nx + 1) + c110)))
  else (hB_X2_machine_19 V o G nx)

/-! X0_machine -/
def hF_X0_machine (V : HEn) (G : Gh) (nx : Nat) (o : Nat) : HO (Option Nat) :=
  (xR G o fl_RunWatch_now).bind fun r101 => (r101).bind fun a103 => (xR G a103 fl_RunWatch_Desk_plan).bind fun r105 => (r105).bind fun a107 => if gC G a107 2 = true then cB (hF_X2_machine V G nx a107) fun r110 G111 c112 => some (r110, G111, 0, 0) else none

/-! X8_many -/
def hF_X8_many (V : HEn) (G : Gh) (nx : Nat) (o : Nat) : HO (Int32) :=
  (xR G o fl_RunWatch_Machine_steps).bind fun r101 => (r101).bind fun a103 => if gC G a103 8 = true then cB (hF_J2_size V G nx a103) fun y106 G107 c108 => some (y106, G107, 0, 0) else none

/-! X8_stateOf -/
def hF_X8_stateOf (V : HEn) (G : Gh) (nx : Nat) (o : Nat) (a0 : Int32) : HO (Int32) :=
  (xR G o fl_RunWatch_Machine_number).bind fun r101 => (xR G o fl_RunWatch_Machine_part).bind fun r103 => (xR G o fl_RunWatch_Machine_place).bind fun r105 => cB (hF_J23_valueOf V G nx a0) fun r107 G108 c109 => (r105).bind fun a114 => if gC G108 a114 19 = true then cB (hF_J39_get V G108 (nx + c109) a114 r107) fun r117 G118 c119 => if gok G118 r117 [26] = true then (r117).bind fun a125 => if gC G118 a125 26 = true then cB (hF_J23_intValue V G118 ((nx + c109) + c119) a125) fun y128 G129 c130 => (r103).bind fun a135 => (rdI G129 (V.2.1 0) a135 y128).bind fun v137 => cB (hF_J23_valueOf V G129 (((nx + c109) + c119) + c130) v137) fun r139 G140 c141 => (r101).bind fun a146 => if gC G140 a146 22 = true then cB (hF_J46_get V G140 ((((nx + c109) + c119) + c130) + c141) a146 r139) fun r149 G150 c151 => if gok G150 r149 [26] = true then (r149).bind fun a157 => if gC G150 a157 26 = true then cB (hF_J23_intValue V G150 (((((nx + c109) + c119) + c130) + c141) + c151) a157) fun y160 G161 c162 => some (y160, G161, 0, 0) else none else none else none else none else none else none

/-! X0_stateNow -/
def hF_X0_stateNow (V : HEn) (G : Gh) (nx : Nat) (o : Nat) : HO (Int32) :=
  if gC G o 0 = true then cB (hF_X0_machine V G nx o) fun r102 G103 c104 => (xI G103 o fl_RunWatch_packed).bind fun v109 => (r102).bind fun a111 => if gC G103 a111 7 = true then cB (hF_X8_stateOf V G103 (nx + c104) a111 v109) fun y114 G115 c116 => some (y114, G115, 0, 0) else none else none

/-! X0_count -/
def hF_X0_count (V : HEn) (G : Gh) (nx : Nat) (o : Nat) (a0 : Int32) : HO (Int32) :=
  if a0 = 0 then ((xR G o fl_RunWatch_now).bind fun r102 => (r102).bind fun a104 => (xR G a104 fl_RunWatch_Desk_plan).bind fun r106 => (r106).bind fun a108 => (xR G a108 fl_RunWatch_Plan_rules).bind fun r110 => (r110).bind fun a112 => if gC G a112 8 = true then cB (hF_J2_size V G nx a112) fun y115 G116 c117 => some (y115, G116, 0, 0) else none)
  else (if a0 = 1 then ((xR G o fl_RunWatch_rows).bind fun r123 => (r123).bind fun a125 => if gC G a125 8 = true then cB (hF_J2_size V G nx a125) fun y128 G129 c130 => some (y128, G129, 0, 0) else none)
  else (if a0 = 2 then (if gC G o 0 = true then cB (hF_X0_machine V G nx o) fun r137 G138 c139 => (r137).bind fun a144 => if gC G138 a144 7 = true then cB (hF_X8_many V G138 (nx + c139) a144) fun y147 G148 c149 => some (y147, G148, 0, 0) else none else none)
  else (if a0 = 3 then (if gC G o 0 = true then cB (hF_X0_stateNow V G nx o) fun y156 G157 c158 => some (y156, G157, 0, 0) else none)
  else (if a0 = 4 then ((xR G o fl_RunWatch_now).bind fun r164 => (r164).bind fun a166 => (xR G a166 fl_RunWatch_Desk_plan).bind fun r168 => (r168).bind fun a170 => (xI G a170 fl_RunWatch_Plan_slack).bind fun v172 => some (v172, G, 0, 0))
  else (if a0 = 5 then ((xR G o fl_RunWatch_now).bind fun r175 => (r175).bind fun a177 => (xR G a177 fl_RunWatch_Desk_plan).bind fun r179 => (r179).bind fun a181 => (xI G a181 fl_RunWatch_Plan_limit).bind fun v183 => some (v183, G, 0, 0))
  else (if a0 = 6 then ((xI G o fl_RunWatch_up).bind fun v186 => some (v186, G, 0, 0))
  else (if a0 = 7 then ((xI G o fl_RunWatch_down).bind fun v189 => some (v189, G, 0, 0))
  else (if a0 = 8 then ((xR G o fl_RunWatch_text).bind fun r192 => (r192).bind fun a194 => if gC G a194 24 = true then cB (hF_J6_length V G nx a194) fun y197 G198 c199 => some (y197, G198, 0, 0) else none)
  else (if a0 = 9 then ((xI G o fl_RunWatch_doneMany).bind fun v205 => some (v205, G, 0, 0))
  else (some ((-1), G, 0, 0)))))))))))

/-! J11_fill_2 -/
def hL_J11_fill_2_5 (V : HEn)  : Nat → Gh → Nat → Option Nat → Int32 → Int32 → Int32 → HO (Unit)
  | 0, _, _, _, _, _, _ => none
  | n + 1, G, nx, l0, l1, l2, l3 =>
  if l3 ≤ l2 then (some ((), G, 0, 0))
  else ((l0).bind fun a2 => (wrI V.1 G (V.2.1 0) a2 l2 l1).bind fun G4 => (hL_J11_fill_2_5 V  n) G4 nx (some a2) l1 (l2 + 1) l3)

def hF_J11_fill_2 (V : HEn) (G : Gh) (nx : Nat) (a0 : Option Nat) (a1 : Int32) : HO (Unit) :=
  (a0).bind fun a106 => (aln G (V.2.1 0) a106).bind fun n108 => hL_J11_fill_2_5 V V.2.2.2.2 G nx (some a106) a1 0 n108

/-! X8_step -/
def hF_X8_step (V : HEn) (G : Gh) (nx : Nat) (o : Nat) (a0 : Int32) (a1 : Int32) : HO (Int32) :=
  (xR G o fl_RunWatch_Machine_steps).bind fun r101 => (r101).bind fun a103 => if gC G a103 8 = true then cB (hF_J2_get V G nx a103 a0) fun r106 G107 c108 => (r106).bind fun a113 => (aln G107 (V.2.1 0) a113).bind fun n115 => (rdI G107 (V.2.1 0) a113 a1).bind fun v117 => some (v117, G107, 0, 0) else none

/-! X0_fars -/
def hB_X0_fars_105 (V : HEn) (o : Nat) (k20 : Gh → Nat → Option Nat → Int32 → Int32 → HO (Option Nat)) (k29 : Gh → Nat → Option Nat → Int32 → Int32 → Int32 → HO (Option Nat)) (G : Gh) (nx : Nat) (l1 : Option Nat) (l2 : Int32) (l3 : Int32) (l4 : Int32) : HO (Option Nat) :=
  k29 G nx l1 l2 l3 (l4 + 1)

def hB_X0_fars_99 (V : HEn) (o : Nat) (k20 : Gh → Nat → Option Nat → Int32 → Int32 → HO (Option Nat)) (k29 : Gh → Nat → Option Nat → Int32 → Int32 → Int32 → HO (Option Nat)) (k39 : Gh → Nat → Option Nat → Int32 → Int32 → Int32 → Int32 → HO (Option Nat)) (G : Gh) (nx : Nat) (l1 : Option Nat) (l2 : Int32) (l3 : Int32) (l4 : Int32) (l5 : Int32) : HO (Option Nat) :=
  k39 G nx l1 l2 l3 l4 (l5 + 1)

def hB_X0_fars_92 (V : HEn) (o : Nat) (k20 : Gh → Nat → Option Nat → Int32 → Int32 → HO (Option Nat)) (k29 : Gh → Nat → Option Nat → Int32 → Int32 → Int32 → HO (Option Nat)) (k39 : Gh → Nat → Option Nat → Int32 → Int32 → Int32 → Int32 → HO (Option Nat)) (G : Gh) (nx : Nat) (l1 : Option Nat) (l3 : Int32) (l4 : Int32) (l5 : Int32) : HO (Option Nat) :=
  (l1).bind fun a1 => (wrI V.1 G (V.2.1 0) a1 l4 l3).bind fun G3 => hB_X0_fars_99 V o k20 k29 k39 G3 nx (some a1) 1 l3 l4 l5

def hL_X0_fars_39 (V : HEn) (o : Nat) (k20 : Gh → Nat → Option Nat → Int32 → Int32 → HO (Option Nat)) (k29 : Gh → Nat → Option Nat → Int32 → Int32 → Int32 → HO (Option Nat)) : Nat → Gh → Nat → Option Nat → Int32 → Int32 → Int32 → Int32 → HO (Option Nat)
  | 0, _, _, _, _, _, _, _ => none
  | n + 1, G, nx, l1, l2, l3, l4, l5 =>
  if 5 ≤ l5 then (hB_X0_fars_105 V o k20 k29 G nx l1 l2 l3 l4)
  else ((l1).bind fun a6 => (rdI G (V.2.1 0) a6 l4).bind fun v8 => if v8 = (-9) then (if gC G o 0 = true then cB (hF_X0_machine V G nx o) fun r12 G13 c14 => (r12).bind fun a19 => if gC G13 a19 7 = true then cB (hF_X8_step V G13 (nx + c14) a19 l4 l5) fun y22 G23 c24 => if y22 = (-5) then (if l3 = 1 then (hB_X0_fars_92 V o k20 k29 (hL_X0_fars_39 V o k20 k29 n) G23 ((nx + c14) + c24) (some a6) l3 l4 l5)
  else (hB_X0_fars_99 V o k20 k29 (hL_X0_fars_39 V o k20 k29 n) G23 ((nx + c14) + c24) (some a6) l2 l3 l4 l5))
  else ((rdI G23 (V.2.1 0) a6 y22).bind fun v31 => if v31 = (l3 - 1) then (hB_X0_fars_92 V o k20 k29 (hL_X0_fars_39 V o k20 k29 n) G23 ((nx + c14) + c24) (some a6) l3 l4 l5)
  else (hB_X0_fars_99 V o k20 k29 (hL_X0_fars_39 V o k20 k29 n) G23 ((nx + c14) + c24) (some a6) l2 l3 l4 l5)) else none else none)
  else (hB_X0_fars_105 V o k20 k29 G nx (some a6) l2 l3 l4))

def hL_X0_fars_29 (V : HEn) (o : Nat) (k20 : Gh → Nat → Option Nat → Int32 → Int32 → HO (Option Nat)) : Nat → Gh → Nat → Option Nat → Int32 → Int32 → Int32 → HO (Option Nat)
  | 0, _, _, _, _, _, _ => none
  | n + 1, G, nx, l1, l2, l3, l4 =>
  (l1).bind fun a34 => (aln G (V.2.1 0) a34).bind fun n36 => if n36 ≤ l4 then (k20 G nx (some a34) l2 (l3 + 1))
  else (hL_X0_fars_39 V o k20 (hL_X0_fars_29 V o k20 n) V.2.2.2.2 G nx (some a34) l2 l3 l4 0)

def hL_X0_fars_20 (V : HEn) (o : Nat)  : Nat → Gh → Nat → Option Nat → Int32 → Int32 → HO (Option Nat)
  | 0, _, _, _, _, _ => none
  | n + 1, G, nx, l1, l2, l3 =>
  if l2 = 0 then (some (l1, G, 0, 0))
  else (hL_X0_fars_29 V o (hL_X0_fars_20 V o n) V.2.2.2.2 G nx l1 0 l3 0)

def hF_X0_fars (V : HEn) (G : Gh) (nx : Nat) (o : Nat) : HO (Option Nat) :=
  if gC G o 0 = true then cB (hF_X0_machine V G nx o) fun r141 G142 c143 => (r141).bind fun a148 => if gC G142 a148 7 = true then cB (hF_X8_many V G142 (nx + c143) a148) fun y151 G152 c153 => (gn y151).bind fun n158 => tick 1 n158 (cB (hF_J11_fill_2 V (gset G152 ((nx + c143) + c153) (.inl (V.2.1 0, n158, .inl (fun _ => 0)))) (((nx + c143) + c153) + 1) (some ((nx + c143) + c153)) (-9)) fun y162 G163 c164 => hL_X0_fars_20 V o V.2.2.2.2 G163 ((((nx + c143) + c153) + 1) + c164) (some ((nx + c143) + c153)) 1 1) else none else none

/-! J4_fixAfterDeletion -/
def hB_J4_fixAfterDeletion_345 (V : HEn) (o : Nat)  (G : Gh) (nx : Nat) (l1 : Option Nat) : HO (Unit) :=
  cB (hF_J4_setColor V G nx l1 1) fun y1 G2 c3 => some ((), G2, 0, 0)

def hB_J4_fixAfterDeletion_342 (V : HEn) (o : Nat) (k0 : Gh → Nat → Option Nat → HO (Unit)) (G : Gh) (nx : Nat) (l1 : Option Nat) : HO (Unit) :=
  k0 G nx l1

def hB_J4_fixAfterDeletion_329 (V : HEn) (o : Nat) (k0 : Gh → Nat → Option Nat → HO (Unit)) (G : Gh) (nx : Nat) (l1 : Option Nat) : HO (Unit) :=
  cB (hF_J4_parentOf V G nx l1) fun r8 G9 c10 => if gC G9 o 10 = true then cB (hF_J4_rotateRight V G9 (nx + c10) o r8) fun y16 G17 c18 => (xR G17 o fl_TreeMap_root).bind fun r23 => hB_J4_fixAfterDeletion_342 V o k0 G17 ((nx + c10) + c18) r23 else none

def hB_J4_fixAfterDeletion_302 (V : HEn) (o : Nat) (k0 : Gh → Nat → Option Nat → HO (Unit)) (G : Gh) (nx : Nat) (l1 : Option Nat) (l2 : Option Nat) : HO (Unit) :=
  cB (hF_J4_parentOf V G nx l1) fun r25 G26 c27 => cB (hF_J4_colorOf V G26 (nx + c27) r25) fun y32 G33 c34 => cB (hF_J4_setColor V G33 ((nx + c27) + c34) l2 y32) fun y39 G40 c41 => cB (hF_J4_parentOf V G40 (((nx + c27) + c34) + c41) l1) fun r46 G47 c48 => cB (hF_J4_setColor V G47 ((((nx + c27) + c34) + c41) + c48) r46 1) fun y53 G54 c55 => cB (hF_J4_leftOf V G54 (((((nx + c27) + c34) + c41) + c48) + c55) l2) fun r60 G61 c62 => cB (hF_J4_setColor V G61 ((((((nx + c27) + c34) + c41) + c48) + c55) + c62) r60 1) fun y67 G68 c69 => hB_J4_fixAfterDeletion_329 V o k0 G68 (((((((nx + c27) + c34) + c41) + c48) + c55) + c62) + c69) l1

def hB_J4_fixAfterDeletion_298 (V : HEn) (o : Nat) (k0 : Gh → Nat → Option Nat → HO (Unit)) (G : Gh) (nx : Nat) (s0 : Option Nat) (l1 : Option Nat) : HO (Unit) :=
  cB (hF_J4_leftOf V G nx s0) fun r74 G75 c76 => hB_J4_fixAfterDeletion_302 V o k0 G75 (nx + c76) l1 r74

def hB_J4_fixAfterDeletion_265 (V : HEn) (o : Nat) (k0 : Gh → Nat → Option Nat → HO (Unit)) (G : Gh) (nx : Nat) (l1 : Option Nat) (l2 : Option Nat) : HO (Unit) :=
  cB (hF_J4_leftOf V G nx l2) fun r81 G82 c83 => cB (hF_J4_colorOf V G82 (nx + c83) r81) fun y88 G89 c90 => if y88 = 1 then (cB (hF_J4_rightOf V G89 ((nx + c83) + c90) l2) fun r96 G97 c98 => cB (hF_J4_setColor V G97 (((nx + c83) + c90) + c98) r96 1) fun y103 G104 c105 => cB (hF_J4_setColor V G104 ((((nx + c83) + c90) + c98) + c105) l2 0) fun y110 G111 c112 => if gC G111 o 10 = true then cB (hF_J4_rotateLeft V G111 (((((nx + c83) + c90) + c98) + c105) + c112) o l2) fun y118 G119 c120 => cB (hF_J4_parentOf V G119 ((((((nx + c83) + c90) + c98) + c105) + c112) + c120) l1) fun r125 G126 c127 => hB_J4_fixAfterDeletion_298 V o k0 G126 (((((((nx + c83) + c90) + c98) + c105) + c112) + c120) + c127) r125 l1 else none)
  else (hB_J4_fixAfterDeletion_302 V o k0 G89 ((nx + c83) + c90) l1 l2)

def hB_J4_fixAfterDeletion_230 (V : HEn) (o : Nat) (k0 : Gh → Nat → Option Nat → HO (Unit)) (G : Gh) (nx : Nat) (l1 : Option Nat) (l2 : Option Nat) : HO (Unit) :=
  cB (hF_J4_rightOf V G nx l2) fun r132 G133 c134 => cB (hF_J4_colorOf V G133 (nx + c134) r132) fun y139 G140 c141 => if y139 = 1 then (cB (hF_J4_leftOf V G140 ((nx + c134) + c141) l2) fun r147 G148 c149 => cB (hF_J4_colorOf V G148 (((nx + c134) + c141) + c149) r147) fun y154 G155 c156 => if y154 = 1 then (cB (hF_J4_setColor V G155 ((((nx + c134) + c141) + c149) + c156) l2 0) fun y162 G163 c164 => cB (hF_J4_parentOf V G163 (((((nx + c134) + c141) + c149) + c156) + c164) l1) fun r169 G170 c171 => hB_J4_fixAfterDeletion_342 V o k0 G170 ((((((nx + c134) + c141) + c149) + c156) + c164) + c171) r169)
  else (hB_J4_fixAfterDeletion_265 V o k0 G155 ((((nx + c134) + c141) + c149) + c156) l1 l2))
  else (hB_J4_fixAfterDeletion_265 V o k0 G140 ((nx + c134) + c141) l1 l2)

def hB_J4_fixAfterDeletion_206 (V : HEn) (o : Nat) (k0 : Gh → Nat → Option Nat → HO (Unit)) (G : Gh) (nx : Nat) (l1 : Option Nat) : HO (Unit) :=
  cB (hF_J4_parentOf V G nx l1) fun r176 G177 c178 => cB (hF_J4_setColor V G177 (nx + c178) r176 0) fun y183 G184 c185 => cB (hF_J4_parentOf V G184 ((nx + c178) + c185) l1) fun r190 G191 c192 => if gC G191 o 10 = true then cB (hF_J4_rotateRight V G191 (((nx + c178) + c185) + c192) o r190) fun y198 G199 c200 => cB (hF_J4_parentOf V G199 ((((nx + c178) + c185) + c192) + c200) l1) fun r205 G206 c207 => cB (hF_J4_leftOf V G206 (((((nx + c178) + c185) + c192) + c200) + c207) r205) fun r212 G213 c214 => hB_J4_fixAfterDeletion_230 V o k0 G213 ((((((nx + c178) + c185) + c192) + c200) + c207) + c214) l1 r212 else none

def hB_J4_fixAfterDeletion_183 (V : HEn) (o : Nat) (k0 : Gh → Nat → Option Nat → HO (Unit)) (G : Gh) (nx : Nat) (l1 : Option Nat) : HO (Unit) :=
  k0 G nx l1

def hB_J4_fixAfterDeletion_170 (V : HEn) (o : Nat) (k0 : Gh → Nat → Option Nat → HO (Unit)) (G : Gh) (nx : Nat) (l1 : Option Nat) : HO (Unit) :=
  cB (hF_J4_parentOf V G nx l1) fun r219 G220 c221 => if gC G220 o 10 = true then cB (hF_J4_rotateLeft V G220 (nx + c221) o r219) fun y227 G228 c229 => (xR G228 o fl_TreeMap_root).bind fun r234 => hB_J4_fixAfterDeletion_183 V o k0 G228 ((nx + c221) + c229) r234 else none

def hB_J4_fixAfterDeletion_143 (V : HEn) (o : Nat) (k0 : Gh → Nat → Option Nat → HO (Unit)) (G : Gh) (nx : Nat) (l1 : Option Nat) (l2 : Option Nat) : HO (Unit) :=
  cB (hF_J4_parentOf V G nx l1) fun r236 G237 c238 => cB (hF_J4_colorOf V G237 (nx + c238) r236) fun y243 G244 c245 => cB (hF_J4_setColor V G244 ((nx + c238) + c245) l2 y243) fun y250 G251 c252 => cB (hF_J4_parentOf V G251 (((nx + c238) + c245) + c252) l1) fun r257 G258 c259 => cB (hF_J4_setColor V G258 ((((nx + c238) + c245) + c252) + c259) r257 1) fun y264 G265 c266 => cB (hF_J4_rightOf V G265 (((((nx + c238) + c245) + c252) + c259) + c266) l2) fun r271 G272 c273 => cB (hF_J4_setColor V G272 ((((((nx + c238) + c245) + c252) + c259) + c266) + c273) r271 1) fun y278 G279 c280 => hB_J4_fixAfterDeletion_170 V o k0 G279 (((((((nx + c238) + c245) + c252) + c259) + c266) + c273) + c280) l1

def hB_J4_fixAfterDeletion_139 (V : HEn) (o : Nat) (k0 : Gh → Nat → Option Nat → HO (Unit)) (G : Gh) (nx : Nat) (s0 : Option Nat) (l1 : Option Nat) : HO (Unit) :=
  cB (hF_J4_rightOf V G nx s0) fun r285 G286 c287 => hB_J4_fixAfterDeletion_143 V o k0 G286 (nx + c287) l1 r285

def hB_J4_fixAfterDeletion_106 (V : HEn) (o : Nat) (k0 : Gh → Nat → Option Nat → HO (Unit)) (G : Gh) (nx : Nat) (l1 : Option Nat) (l2 : Option Nat) : HO (Unit) :=
  cB (hF_J4_rightOf V G nx l2) fun r292 G293 c294 => cB (hF_J4_colorOf V G293 (nx + c294) r292) fun y299 G300 c301 => if y299 = 1 then (cB (hF_J4_leftOf V G300 ((nx + c294) + c301) l2) fun r307 G308 c309 => cB (hF_J4_setColor V G308 (((nx + c294) + c301) + c309) r307 1) fun y314 G315 c316 => cB (hF_J4_setColor V G315 ((((nx + c294) + c301) + c309) + c316) l2 0) fun y321 G322 c323 => if gC G322 o 10 = true then cB (hF_J4_rotateRight V G322 (((((nx + c294) + c301) + c309) + c316) + c323) o l2) fun y329 G330 c331 => cB (hF_J4_parentOf V G330 ((((((nx + c294) + c301) + c309) + c316) + c323) + c331) l1) fun r336 G337 c338 => hB_J4_fixAfterDeletion_139 V o k0 G337 (((((((nx + c294) + c301) + c309) + c316) + c323) + c331) + c338) r336 l1 else none)
  else (hB_J4_fixAfterDeletion_143 V o k0 G300 ((nx + c294) + c301) l1 l2)

def hB_J4_fixAfterDeletion_71 (V : HEn) (o : Nat) (k0 : Gh → Nat → Option Nat → HO (Unit)) (G : Gh) (nx : Nat) (l1 : Option Nat) (l2 : Option Nat) : HO (Unit) :=
  cB (hF_J4_leftOf V G nx l2) fun r343 G344 c345 => cB (hF_J4_colorOf V G344 (nx + c345) r343) fun y350 G351 c352 => if y350 = 1 then (cB (hF_J4_rightOf V G351 ((nx + c345) + c352) l2) fun r358 G359 c360 => cB (hF_J4_colorOf V G359 (((nx + c345) + c352) + c360) r358) fun y365 G366 c367 => if y365 = 1 then (cB (hF_J4_setColor V G366 ((((nx + c345) + c352) + c360) + c367) l2 0) fun y373 G374 c375 => cB (hF_J4_parentOf V G374 (((((nx + c345) + c352) + c360) + c367) + c375) l1) fun r380 G381 c382 => hB_J4_fixAfterDeletion_183 V o k0 G381 ((((((nx + c345) + c352) + c360) + c367) + c375) + c382) r380)
  else (hB_J4_fixAfterDeletion_106 V o k0 G366 ((((nx + c345) + c352) + c360) + c367) l1 l2))
  else (hB_J4_fixAfterDeletion_106 V o k0 G351 ((nx + c345) + c352) l1 l2)

def hB_J4_fixAfterDeletion_47 (V : HEn) (o : Nat) (k0 : Gh → Nat → Option Nat → HO (Unit)) (G : Gh) (nx : Nat) (l1 : Option Nat) : HO (Unit) :=
  cB (hF_J4_parentOf V G nx l1) fun r387 G388 c389 => cB (hF_J4_setColor V G388 (nx + c389) r387 0) fun y394 G395 c396 => cB (hF_J4_parentOf V G395 ((nx + c389) + c396) l1) fun r401 G402 c403 => if gC G402 o 10 = true then cB (hF_J4_rotateLeft V G402 (((nx + c389) + c396) + c403) o r401) fun y409 G410 c411 => cB (hF_J4_parentOf V G410 ((((nx + c389) + c396) + c403) + c411) l1) fun r416 G417 c418 => cB (hF_J4_rightOf V G417 (((((nx + c389) + c396) + c403) + c411) + c418) r416) fun r423 G424 c425 => hB_J4_fixAfterDeletion_71 V o k0 G424 ((((((nx + c389) + c396) + c403) + c411) + c418) + c425) l1 r423 else none

def hL_J4_fixAfterDeletion_0 (V : HEn) (o : Nat)  : Nat → Gh → Nat → Option Nat → HO (Unit)
  | 0, _, _, _ => none
  | n + 1, G, nx, l1 =>
  (xR G o fl_TreeMap_root).bind fun r430 => if l1 = r430 then (hB_J4_fixAfterDeletion_345 V o G nx l1)
  else (cB (hF_J4_colorOf V G nx l1) fun y433 G434 c435 => if y433 = 1 then (cB (hF_J4_parentOf V G434 (nx + c435) l1) fun r441 G442 c443 => cB (hF_J4_leftOf V G442 ((nx + c435) + c443) r441) fun r448 G449 c450 => if l1 = r448 then (cB (hF_J4_parentOf V G449 (((nx + c435) + c443) + c450) l1) fun r456 G457 c458 => cB (hF_J4_rightOf V G457 ((((nx + c435) + c443) + c450) + c458) r456) fun r463 G464 c465 => cB (hF_J4_colorOf V G464 (((((nx + c435) + c443) + c450) + c458) + c465) r463) fun y470 G471 c472 => if y470 = 0 then (cB (hF_J4_setColor V G471 ((((((nx + c435) + c443) + c450) + c458) + c465) + c472) r463 1) fun y478 G479 c480 => hB_J4_fixAfterDeletion_47 V o (hL_J4_fixAfterDeletion_0 V o n) G479 (((((((nx + c435) + c443) + c450) + c458) + c465) + c472) + c480) l1)
  else (hB_J4_fixAfterDeletion_71 V o (hL_J4_fixAfterDeletion_0 V o n) G471 ((((((nx + c435) + c443) + c450) + c458) + c465) + c472) l1 r463))
  else (cB (hF_J4_parentOf V G449 (((nx + c435) + c443) + c450) l1) fun r485 G486 c487 => cB (hF_J4_leftOf V G486 ((((nx + c435) + c443) + c450) + c487) r485) fun r492 G493 c494 => cB (hF_J4_colorOf V G493 (((((nx + c435) + c443) + c450) + c487) + c494) r492) fun y499 G500 c501 => if y499 = 0 then (cB (hF_J4_setColor V G500 ((((((nx + c435) + c443) + c450) + c487) + c494) + c501) r492 1) fun y507 G508 c509 => hB_J4_fixAfterDeletion_206 V o (hL_J4_fixAfterDeletion_0 V o n) G508 (((((((nx + c435) + c443) + c450) + c487) + c494) + c501) + c509) l1)
  else (hB_J4_fixAfterDeletion_230 V o (hL_J4_fixAfterDeletion_0 V o n) G500 ((((((nx + c435) + c443) + c450) + c487) + c494) + c501) l1 r492)))
  else (hB_J4_fixAfterDeletion_345 V o G434 (nx + c435) l1))

def hF_J4_fixAfterDeletion (V : HEn) (G : Gh) (nx : Nat) (o : Nat) (a0 : Option Nat) : HO (Unit) :=
  hL_J4_fixAfterDeletion_0 V o V.2.2.2.2 G nx a0

/-! J4_deleteEntry -/
def hB_J4_deleteEntry_245 (V : HEn) (o : Nat)  (G : Gh) (nx : Nat)  : HO (Unit) :=
  some ((), G, 0, 0)

def hB_J4_deleteEntry_240 (V : HEn) (o : Nat)  (G : Gh) (nx : Nat) (l1 : Option Nat) : HO (Unit) :=
  (l1).bind fun a1 => (xF V.1 G a1 fl_TreeMap_Entry_parent (va_rf none)).bind fun G3 => hB_J4_deleteEntry_245 V o G3 nx

def hB_J4_deleteEntry_192 (V : HEn) (o : Nat)  (G : Gh) (nx : Nat) (l1 : Option Nat) : HO (Unit) :=
  (l1).bind fun a5 => (xR G a5 fl_TreeMap_Entry_parent).bind fun r7 => if r7 = none then (hB_J4_deleteEntry_245 V o G nx)
  else ((xR G a5 fl_TreeMap_Entry_parent).bind fun r10 => (r10).bind fun a12 => (xR G a12 fl_TreeMap_Entry_left).bind fun r14 => if (some a5) = r14 then ((xR G a5 fl_TreeMap_Entry_parent).bind fun r17 => (r17).bind fun a19 => (xF V.1 G a19 fl_TreeMap_Entry_left (va_rf none)).bind fun G21 => hB_J4_deleteEntry_240 V o G21 nx (some a5))
  else ((xR G a5 fl_TreeMap_Entry_parent).bind fun r23 => (r23).bind fun a25 => (xR G a25 fl_TreeMap_Entry_right).bind fun r27 => if (some a5) = r27 then ((xR G a5 fl_TreeMap_Entry_parent).bind fun r30 => (r30).bind fun a32 => (xF V.1 G a32 fl_TreeMap_Entry_right (va_rf none)).bind fun G34 => hB_J4_deleteEntry_240 V o G34 nx (some a5))
  else (hB_J4_deleteEntry_240 V o G nx (some a5))))

def hB_J4_deleteEntry_133 (V : HEn) (o : Nat)  (G : Gh) (nx : Nat) (l1 : Option Nat) (l2 : Option Nat) : HO (Unit) :=
  (l1).bind fun a36 => (xF V.1 G a36 fl_TreeMap_Entry_parent (va_rf none)).bind fun G38 => (xF V.1 G38 a36 fl_TreeMap_Entry_right (va_rf none)).bind fun G40 => (xF V.1 G40 a36 fl_TreeMap_Entry_left (va_rf none)).bind fun G42 => (xI G42 a36 fl_TreeMap_Entry_color).bind fun v44 => if v44 = 1 then (if gC G42 o 10 = true then cB (hF_J4_fixAfterDeletion V G42 nx o l2) fun y48 G49 c50 => hB_J4_deleteEntry_245 V o G49 (nx + c50) else none)
  else (hB_J4_deleteEntry_245 V o G42 nx)

def hB_J4_deleteEntry_75 (V : HEn) (o : Nat)  (G : Gh) (nx : Nat) (s0 : Option Nat) (l1 : Option Nat) : HO (Unit) :=
  if s0 = none then ((l1).bind fun a56 => (xR G a56 fl_TreeMap_Entry_parent).bind fun r58 => if r58 = none then ((xF V.1 G o fl_TreeMap_root (va_rf none)).bind fun G61 => hB_J4_deleteEntry_245 V o G61 nx)
  else ((xI G a56 fl_TreeMap_Entry_color).bind fun v63 => if v63 = 1 then (if gC G o 10 = true then cB (hF_J4_fixAfterDeletion V G nx o (some a56)) fun y67 G68 c69 => hB_J4_deleteEntry_192 V o G68 (nx + c69) (some a56) else none)
  else (hB_J4_deleteEntry_192 V o G nx (some a56))))
  else ((l1).bind fun a74 => (xR G a74 fl_TreeMap_Entry_parent).bind fun r76 => (s0).bind fun a78 => (xF V.1 G a78 fl_TreeMap_Entry_parent (va_rf r76)).bind fun G80 => (xR G80 a74 fl_TreeMap_Entry_parent).bind fun r82 => if r82 = none then ((xF V.1 G80 o fl_TreeMap_root (va_rf (some a78))).bind fun G85 => hB_J4_deleteEntry_133 V o G85 nx (some a74) (some a78))
  else ((xR G80 a74 fl_TreeMap_Entry_parent).bind fun r87 => (r87).bind fun a89 => (xR G80 a89 fl_TreeMap_Entry_left).bind fun r91 => if (some a74) = r91 then ((xR G80 a74 fl_TreeMap_Entry_parent).bind fun r94 => (r94).bind fun a96 => (xF V.1 G80 a96 fl_TreeMap_Entry_left (va_rf (some a78))).bind fun G98 => hB_J4_deleteEntry_133 V o G98 nx (some a74) (some a78))
  else ((xR G80 a74 fl_TreeMap_Entry_parent).bind fun r100 => (r100).bind fun a102 => (xF V.1 G80 a102 fl_TreeMap_Entry_right (va_rf (some a78))).bind fun G104 => hB_J4_deleteEntry_133 V o G104 nx (some a74) (some a78))))

def hB_J4_deleteEntry_57 (V : HEn) (o : Nat)  (G : Gh) (nx : Nat) (l1 : Option Nat) : HO (Unit) :=
  (l1).bind fun a106 => (xR G a106 fl_TreeMap_Entry_left).bind fun r108 => if r108 = none then ((xR G a106 fl_TreeMap_Entry_right).bind fun r111 => hB_J4_deleteEntry_75 V o G nx r111 (some a106))
  else ((xR G a106 fl_TreeMap_Entry_left).bind fun r113 => hB_J4_deleteEntry_75 V o G nx r113 (some a106))

def hF_J4_deleteEntry (V : HEn) (G : Gh) (nx : Nat) (o : Nat) (a0 : Option Nat) : HO (Unit) :=
  (xI G o fl_TreeMap_modCount).bind fun v215 => (xF V.1 G o fl_TreeMap_modCount (.int (v215 + 1))).bind fun G217 => (xI G217 o fl_TreeMap_size).bind fun v219 => (xF V.1 G217 o fl_TreeMap_size (.int (v219 - 1))).bind fun G221 => (a0).bind fun a223 => (xR G221 a223 fl_TreeMap_Entry_left).bind fun r225 => if r225 = none then (hB_J4_deleteEntry_57 V o G221 nx (some a223))
  else ((xR G221 a223 fl_TreeMap_Entry_right).bind fun r228 => if r228 = none then (hB_J4_deleteEntry_57 V o G221 nx (some a223))
  else (cB (hF_J4_successor V G221 nx (some a223)) fun r231 G232 c233 => (r231).bind fun a238 => (xR G232 a238 fl_TreeMap_Entry_key).bind fun r240 => (xF V.1 G232 a223 fl_TreeMap_Entry_key (va_rf r240)).bind fun G242 => (xR G242 a238 fl_TreeMap_Entry_value).bind fun r244 => (xF V.1 G242 a223 fl_TreeMap_Entry_value (va_rf r244)).bind fun G246 => hB_J4_deleteEntry_57 V o G246 (nx + c233) (some a238)))

/-! J4_remove -/
def hF_J4_remove (V : HEn) (G : Gh) (nx : Nat) (o : Nat) (a0 : Option Nat) : HO (Option Nat) :=
  if gC G o 10 = true then cB (hF_J4_getEntry V G nx o a0) fun r102 G103 c104 => if r102 = none then (some (none, G103, 0, 0))
  else ((r102).bind fun a110 => (xR G103 a110 fl_TreeMap_Entry_value).bind fun r112 => if gC G103 o 10 = true then cB (hF_J4_deleteEntry V G103 (nx + c104) o (some a110)) fun y115 G116 c117 => some (r112, G116, 0, 0) else none) else none

/-! X0_goes -/
def hF_X0_goes (V : HEn) (G : Gh) (nx : Nat) (o : Nat) (a0 : Int32) : HO (Int32) :=
  if gC G o 0 = true then cB (hF_X0_isRow V G nx o a0) fun y102 G103 c104 => if y102 = 0 then (some ((-1), G103, 0, 0))
  else ((xR G103 o fl_RunWatch_rows).bind fun r110 => (r110).bind fun a112 => if gC G103 a112 8 = true then cB (hF_J2_get V G103 (nx + c104) a112 a0) fun r115 G116 c117 => if gok G116 r115 [6] = true then (r115).bind fun a123 => (xI G116 a123 fl_RunWatch_Row_time).bind fun v125 => if gC G116 o 0 = true then cB (hF_X0_notes V G116 ((nx + c104) + c117) o) fun y128 G129 c130 => (xR G129 o fl_RunWatch_now).bind fun r135 => (r135).bind fun a137 => (xR G129 a137 fl_RunWatch_Desk_rows).bind fun r139 => cB (hF_J23_valueOf V G129 (((nx + c104) + c117) + c130) v125) fun r141 G142 c143 => (r139).bind fun a148 => if gC G142 a148 10 = true then cB (hF_J4_remove V G142 ((((nx + c104) + c117) + c130) + c143) a148 r141) fun r151 G152 c153 => if gC G152 o 0 = true then cB (hF_X0_goesThrough V G152 (((((nx + c104) + c117) + c130) + c143) + c153) o) fun y159 G160 c161 => some (v125, G160, 0, 0) else none else none else none else none else none) else none

/-! X0_isSame -/
def hB_X0_isSame_84 (V : HEn) (o : Nat) (k12 : Gh → Nat → Option Nat → Int32 → Option Nat → HO (Int32)) (G : Gh) (nx : Nat) (s0 : Int32) (l1 : Option Nat) (l3 : Option Nat) : HO (Int32) :=
  k12 G nx l1 s0 l3

def hB_X0_isSame_69 (V : HEn) (o : Nat) (k12 : Gh → Nat → Option Nat → Int32 → Option Nat → HO (Int32)) (G : Gh) (nx : Nat) (s0 : Int32) (s1 : Int32) (l1 : Option Nat) (l2 : Int32) (l3 : Option Nat) (l5 : Int32) : HO (Int32) :=
  if s0 = s1 then (if l5 = 0 then (hB_X0_isSame_84 V o k12 G nx l2 l1 l3)
  else (hB_X0_isSame_84 V o k12 G nx 0 l1 l3))
  else (some (0, G, 0, 0))

def hL_X0_isSame_12 (V : HEn) (o : Nat)  : Nat → Gh → Nat → Option Nat → Int32 → Option Nat → HO (Int32)
  | 0, _, _, _, _, _ => none
  | n + 1, G, nx, l1, l2, l3 =>
  (l3).bind fun a3 => if gC G a3 9 = true then cB (hF_J16_hasNext V G nx a3) fun y6 G7 c8 => if y6 = 0 then (some (1, G7, 0, 0))
  else (if gC G7 a3 9 = true then cB (hF_J16_next V G7 (nx + c8) a3) fun r15 G16 c17 => if gok G16 r15 [6] = true then (r15).bind fun a23 => (xI G16 a23 fl_RunWatch_Row_sign).bind fun v25 => (l1).bind fun a27 => if gC G16 a27 5 = true then cB (hF_X6_behind V G16 ((nx + c8) + c17) a27 l2 v25) fun y30 G31 c32 => if gC G31 a27 5 = true then cB (hF_X6_isMet V G31 (((nx + c8) + c17) + c32) a27 y30) fun y38 G39 c40 => (xI G39 a23 fl_RunWatch_Row_met).bind fun v45 => if v45 = 0 then (hB_X0_isSame_69 V o (hL_X0_isSame_12 V o n) G39 ((((nx + c8) + c17) + c32) + c40) y38 0 (some a27) y30 (some a3) y38)
  else (hB_X0_isSame_69 V o (hL_X0_isSame_12 V o n) G39 ((((nx + c8) + c17) + c32) + c40) y38 1 (some a27) y30 (some a3) y38) else none else none else none else none) else none

def hF_X0_isSame (V : HEn) (G : Gh) (nx : Nat) (o : Nat) (a0 : Option Nat) : HO (Int32) :=
  (xR G o fl_RunWatch_rows).bind fun r148 => (r148).bind fun a150 => if gC G a150 8 = true then cB (hF_J2_iterator V G nx a150) fun r153 G154 c155 => hL_X0_isSame_12 V o V.2.2.2.2 G154 (nx + c155) a0 0 r153 else none

/-! X0_keep -/
def hF_X0_keep (V : HEn) (G : Gh) (nx : Nat) (o : Nat) (a0 : Int32) : HO (Int32) :=
  cB (hF_X0_isIn V G nx a0 0 1) fun y101 G102 c103 => if y101 = 0 then (some ((-1), G102, 0, 0))
  else ((xR G102 o fl_RunWatch_images).bind fun r109 => (xR G102 o fl_RunWatch_now).bind fun r111 => (r111).bind fun a113 => if gC G102 a113 1 = true then cB (hF_X1_copy V G102 (nx + c103) a113) fun r116 G117 c118 => (r109).bind fun a123 => if gokA G117 V.2.1 r116 [1] = true then (wrR V.1 G117 (V.2.1 5) a123 a0 r116).bind fun G125 => (xR G125 o fl_RunWatch_now).bind fun r128 => (r128).bind fun a130 => (xR G125 a130 fl_RunWatch_Desk_rows).bind fun r132 => (r132).bind fun a134 => if gC G125 a134 10 = true then cB (hF_J4_size V G125 ((nx + c103) + c118) a134) fun y137 G138 c139 => some (y137, G138, 0, 0) else none else none else none)

/-! X0_power -/
def hB_X0_power_41 (V : HEn) (k9 : Gh → Nat → Int64 → Int64 → Int64 → HO (Int64)) (G : Gh) (nx : Nat) (s0 : Int64) (l6 : Int64) (l8 : Int64) : HO (Int64) :=
  k9 G nx s0 ((l6 * l6) - (l6 * l6) / 1000003 * 1000003) (l8 / 2)

def hL_X0_power_9 (V : HEn)  : Nat → Gh → Nat → Int64 → Int64 → Int64 → HO (Int64)
  | 0, _, _, _, _, _ => none
  | n + 1, G, nx, l4, l6, l8 =>
  if (lg_cmp l8 0) ≤ 0 then (some (l4, G, 0, 0))
  else (if (lg_cmp (l8 - l8 / 2 * 2) 1) = 0 then (hB_X0_power_41 V (hL_X0_power_9 V  n) G nx ((l4 * l6) - (l4 * l6) / 1000003 * 1000003) l6 l8)
  else (hB_X0_power_41 V (hL_X0_power_9 V  n) G nx l4 l6 l8))

def hF_X0_power (V : HEn) (G : Gh) (nx : Nat) (a0 : Int64) (a1 : Int64) : HO (Int64) :=
  hL_X0_power_9 V V.2.2.2.2 G nx 1 a0 a1

/-! X0_solves -/
def hB_X0_solves_184 (V : HEn) (k5 : Gh → Nat → Option Nat → Int32 → Int32 → HO (Int32)) (k103 : Gh → Nat → Option Nat → Int32 → Int32 → Option Nat → Int32 → HO (Int32)) (G : Gh) (nx : Nat) (l0 : Option Nat) (l1 : Int32) (l2 : Int32) (l4 : Option Nat) (l7 : Int32) : HO (Int32) :=
  k103 G nx l0 l1 l2 l4 (l7 + 1)

def hL_X0_solves_130 (V : HEn) (k5 : Gh → Nat → Option Nat → Int32 → Int32 → HO (Int32)) (k103 : Gh → Nat → Option Nat → Int32 → Int32 → Option Nat → Int32 → HO (Int32)) : Nat → Gh → Nat → Option Nat → Int32 → Int32 → Option Nat → Int32 → Int64 → Int32 → HO (Int32)
  | 0, _, _, _, _, _, _, _, _, _ => none
  | n + 1, G, nx, l0, l1, l2, l4, l7, l8, l10 =>
  if l1 < l10 then (hB_X0_solves_184 V k5 k103 G nx l0 l1 l2 l4 l7)
  else (if (lg_cmp l8 0) = 0 then (hB_X0_solves_184 V k5 k103 G nx l0 l1 l2 l4 l7)
  else ((l0).bind fun a3 => (rdR G (V.2.1 7) a3 l7).bind fun r5 => (rdR G (V.2.1 7) a3 l7).bind fun r7 => (r7).bind fun a9 => (rdJ G (V.2.1 2) a9 l10).bind fun v11 => (l4).bind fun a13 => (rdJ G (V.2.1 2) a13 l10).bind fun v15 => (r5).bind fun a17 => (wrJ V.1 G (V.2.1 2) a17 l10 ((((v11 - (l8 * v15)) - (v11 - (l8 * v15)) / 1000003 * 1000003) + 1000003) - (((v11 - (l8 * v15)) - (v11 - (l8 * v15)) / 1000003 * 1000003) + 1000003) / 1000003 * 1000003)).bind fun G19 => (hL_X0_solves_130 V k5 k103 n) G19 nx (some a3) l1 l2 (some a13) l7 l8 (l10 + 1)))

def hB_X0_solves_125 (V : HEn) (k5 : Gh → Nat → Option Nat → Int32 → Int32 → HO (Int32)) (k103 : Gh → Nat → Option Nat → Int32 → Int32 → Option Nat → Int32 → HO (Int32)) (G : Gh) (nx : Nat) (s0 : Int64) (l0 : Option Nat) (l1 : Int32) (l2 : Int32) (l4 : Option Nat) (l7 : Int32) : HO (Int32) :=
  hL_X0_solves_130 V k5 k103 V.2.2.2.2 G nx l0 l1 l2 l4 l7 s0 0

def hL_X0_solves_103 (V : HEn) (k5 : Gh → Nat → Option Nat → Int32 → Int32 → HO (Int32)) : Nat → Gh → Nat → Option Nat → Int32 → Int32 → Option Nat → Int32 → HO (Int32)
  | 0, _, _, _, _, _, _, _ => none
  | n + 1, G, nx, l0, l1, l2, l4, l7 =>
  if l1 ≤ l7 then (k5 G nx l0 l1 (l2 + 1))
  else (if l7 = l2 then (hB_X0_solves_125 V k5 (hL_X0_solves_103 V k5 n) G nx 0 l0 l1 l2 l4 l7)
  else ((l0).bind fun a23 => (rdR G (V.2.1 7) a23 l7).bind fun r25 => (r25).bind fun a27 => (rdJ G (V.2.1 2) a27 l2).bind fun v29 => hB_X0_solves_125 V k5 (hL_X0_solves_103 V k5 n) G nx v29 (some a23) l1 l2 l4 l7))

def hL_X0_solves_71 (V : HEn) (k5 : Gh → Nat → Option Nat → Int32 → Int32 → HO (Int32)) : Nat → Gh → Nat → Option Nat → Int32 → Int32 → Option Nat → Int64 → Int32 → HO (Int32)
  | 0, _, _, _, _, _, _, _, _ => none
  | n + 1, G, nx, l0, l1, l2, l4, l5, l7 =>
  if l1 < l7 then (hL_X0_solves_103 V k5 V.2.2.2.2 G nx l0 l1 l2 l4 0)
  else ((l4).bind fun a32 => (rdJ G (V.2.1 2) a32 l7).bind fun v34 => (wrJ V.1 G (V.2.1 2) a32 l7 ((v34 * l5) - (v34 * l5) / 1000003 * 1000003)).bind fun G36 => (hL_X0_solves_71 V k5 n) G36 nx l0 l1 l2 (some a32) l5 (l7 + 1))

def hB_X0_solves_33 (V : HEn) (k5 : Gh → Nat → Option Nat → Int32 → Int32 → HO (Int32)) (G : Gh) (nx : Nat) (l0 : Option Nat) (l1 : Int32) (l2 : Int32) (l3 : Int32) : HO (Int32) :=
  if l3 = l1 then (some (0, G, 0, 0))
  else ((l0).bind fun a39 => (rdR G (V.2.1 7) a39 l3).bind fun r41 => (rdR G (V.2.1 7) a39 l2).bind fun r43 => if gokA G V.2.1 r43 [102] = true then (wrR V.1 G (V.2.1 7) a39 l3 r43).bind fun G45 => if gokA G45 V.2.1 r41 [102] = true then (wrR V.1 G45 (V.2.1 7) a39 l2 r41).bind fun G48 => (r41).bind fun a51 => (rdJ G48 (V.2.1 2) a51 l2).bind fun v53 => cB (hF_X0_power V G48 nx v53 1000001) fun y55 G56 c57 => hL_X0_solves_71 V k5 V.2.2.2.2 G56 (nx + c57) (some a39) l1 l2 (some a51) y55 0 else none else none)

def hL_X0_solves_12 (V : HEn) (k5 : Gh → Nat → Option Nat → Int32 → Int32 → HO (Int32)) : Nat → Gh → Nat → Option Nat → Int32 → Int32 → Int32 → HO (Int32)
  | 0, _, _, _, _, _, _ => none
  | n + 1, G, nx, l0, l1, l2, l3 =>
  if l1 ≤ l3 then (hB_X0_solves_33 V k5 G nx l0 l1 l2 l3)
  else ((l0).bind fun a63 => (rdR G (V.2.1 7) a63 l3).bind fun r65 => (r65).bind fun a67 => (rdJ G (V.2.1 2) a67 l2).bind fun v69 => if (lg_cmp v69 0) = 0 then ((hL_X0_solves_12 V k5 n) G nx (some a63) l1 l2 (l3 + 1))
  else (hB_X0_solves_33 V k5 G nx (some a63) l1 l2 l3))

def hL_X0_solves_5 (V : HEn)  : Nat → Gh → Nat → Option Nat → Int32 → Int32 → HO (Int32)
  | 0, _, _, _, _, _ => none
  | n + 1, G, nx, l0, l1, l2 =>
  if l1 ≤ l2 then (some (1, G, 0, 0))
  else (hL_X0_solves_12 V (hL_X0_solves_5 V  n) V.2.2.2.2 G nx l0 l1 l2 l2)

def hF_X0_solves (V : HEn) (G : Gh) (nx : Nat) (a0 : Option Nat) : HO (Int32) :=
  (a0).bind fun a173 => (aln G (V.2.1 7) a173).bind fun n175 => hL_X0_solves_5 V V.2.2.2.2 G nx (some a173) n175 0

/-! X0_mean -/
def hB_X0_mean_138 (V : HEn) (o : Nat)  (G : Gh) (nx : Nat) (s0 : Int32) : HO (Int32) :=
  some (s0, G, 0, 0)

def hB_X0_mean_103 (V : HEn) (o : Nat) (k19 : Gh → Nat → Int32 → Option Nat → Int32 → HO (Int32)) (k43 : Gh → Nat → Int32 → Option Nat → Int32 → Int32 → HO (Int32)) (G : Gh) (nx : Nat) (l1 : Int32) (l2 : Option Nat) (l3 : Int32) (l4 : Int32) : HO (Int32) :=
  k43 G nx l1 l2 l3 (l4 + 1)

def hL_X0_mean_43 (V : HEn) (o : Nat) (k19 : Gh → Nat → Int32 → Option Nat → Int32 → HO (Int32)) : Nat → Gh → Nat → Int32 → Option Nat → Int32 → Int32 → HO (Int32)
  | 0, _, _, _, _, _, _ => none
  | n + 1, G, nx, l1, l2, l3, l4 =>
  if 5 ≤ l4 then (k19 G nx l1 l2 (l3 + 1))
  else (if gC G o 0 = true then cB (hF_X0_machine V G nx o) fun r3 G4 c5 => (r3).bind fun a10 => if gC G4 a10 7 = true then cB (hF_X8_step V G4 (nx + c5) a10 l3 l4) fun y13 G14 c15 => if y13 = (-5) then (hB_X0_mean_103 V o k19 (hL_X0_mean_43 V o k19 n) G14 ((nx + c5) + c15) l1 l2 l3 l4)
  else ((l2).bind fun a21 => (rdR G14 (V.2.1 7) a21 l3).bind fun r23 => (rdR G14 (V.2.1 7) a21 l3).bind fun r25 => (r25).bind fun a27 => (rdJ G14 (V.2.1 2) a27 y13).bind fun v29 => (xR G14 o fl_RunWatch_now).bind fun r31 => (r31).bind fun a33 => (xR G14 a33 fl_RunWatch_Desk_plan).bind fun r35 => (r35).bind fun a37 => (xR G14 a37 fl_RunWatch_Plan_chances).bind fun r39 => (r39).bind fun a41 => (rdI G14 (V.2.1 0) a41 l4).bind fun v43 => (r23).bind fun a45 => (wrJ V.1 G14 (V.2.1 2) a45 y13 (((v29 + 1000003) - v43.toInt64) - ((v29 + 1000003) - v43.toInt64) / 1000003 * 1000003)).bind fun G47 => hB_X0_mean_103 V o k19 (hL_X0_mean_43 V o k19 n) G47 ((nx + c5) + c15) l1 (some a21) l3 l4) else none else none)

def hL_X0_mean_19 (V : HEn) (o : Nat)  : Nat → Gh → Nat → Int32 → Option Nat → Int32 → HO (Int32)
  | 0, _, _, _, _, _ => none
  | n + 1, G, nx, l1, l2, l3 =>
  if l1 ≤ l3 then (if gC G o 0 = true then cB (hF_X0_stateNow V G nx o) fun y51 G52 c53 => cB (hF_X0_solves V G52 (nx + c53) l2) fun y58 G59 c60 => if y58 = 0 then (hB_X0_mean_138 V o G59 ((nx + c53) + c60) (-9))
  else ((l2).bind fun a66 => (rdR G59 (V.2.1 7) a66 y51).bind fun r68 => (r68).bind fun a70 => (rdJ G59 (V.2.1 2) a70 l1).bind fun v72 => hB_X0_mean_138 V o G59 ((nx + c53) + c60) v72.toInt32) else none)
  else ((l2).bind fun a74 => (rdR G (V.2.1 7) a74 l3).bind fun r76 => (r76).bind fun a78 => (wrJ V.1 G (V.2.1 2) a78 l3 10).bind fun G80 => (rdR G80 (V.2.1 7) a74 l3).bind fun r82 => (r82).bind fun a84 => (wrJ V.1 G80 (V.2.1 2) a84 l1 10).bind fun G86 => hL_X0_mean_43 V o (hL_X0_mean_19 V o n) V.2.2.2.2 G86 nx l1 (some a74) l3 0)

def hF_X0_mean (V : HEn) (G : Gh) (nx : Nat) (o : Nat) : HO (Int32) :=
  if gC G o 0 = true then cB (hF_X0_machine V G nx o) fun r189 G190 c191 => (r189).bind fun a196 => if gC G190 a196 7 = true then cB (hF_X8_many V G190 (nx + c191) a196) fun y199 G200 c201 => (gn y199).bind fun n206 => (gn (y199 + 1)).bind fun n208 => tick (n206 + 1) (n206 + n206 * n208) (hL_X0_mean_19 V o V.2.2.2.2 (gM G200 (V.2.1 7) (V.2.1 2) ((nx + c191) + c201) n206 n208) (((nx + c191) + c201) + (n206 + 1)) y199 (some ((nx + c191) + c201)) 0) else none else none

/-! X0_odds -/
def hB_X0_odds_19 (V : HEn) (o : Nat)  (G : Gh) (nx : Nat)  : HO (Int32) :=
  some ((-1), G, 0, 0)

def hB_X0_odds_213 (V : HEn) (o : Nat)  (G : Gh) (nx : Nat) (s0 : Int64) (l8 : Int64) : HO (Int32) :=
  if ¬ l8 = 0 then some (((s0 / l8).toInt32), G, 0, 0) else none

def hL_X0_odds_166 (V : HEn) (o : Nat)  : Nat → Gh → Nat → Int32 → Int64 → Int64 → Option Nat → Int32 → Int32 → HO (Int32)
  | 0, _, _, _, _, _, _, _, _ => none
  | n + 1, G, nx, l2, l4, l6, l8, l9, l10 =>
  if l9 ≤ l10 then (cB (hF_X0_common V 100 G nx l6 l4) fun y3 G4 c5 => if l2 = 0 then (hB_X0_odds_213 V o G4 (nx + c5) l6 y3)
  else (hB_X0_odds_213 V o G4 (nx + c5) l4 y3))
  else ((l8).bind fun a11 => (rdJ G (V.2.1 2) a11 l10).bind fun v13 => (hL_X0_odds_166 V o n) G nx l2 l4 (l6 - v13) (some a11) l9 (l10 + 1))

def hB_X0_odds_122 (V : HEn) (o : Nat) (k44 : Gh → Nat → Int32 → Int32 → Option Nat → Int64 → Int32 → HO (Int32)) (k59 : Gh → Nat → Int32 → Int32 → Option Nat → Int64 → Int32 → Option Nat → Int32 → HO (Int32)) (k69 : Gh → Nat → Int32 → Int32 → Option Nat → Int64 → Int32 → Option Nat → Int32 → Int32 → HO (Int32)) (G : Gh) (nx : Nat) (l1 : Int32) (l2 : Int32) (l3 : Option Nat) (l4 : Int64) (l6 : Int32) (l7 : Option Nat) (l8 : Int32) (l9 : Int32) : HO (Int32) :=
  k69 G nx l1 l2 l3 l4 l6 l7 l8 (l9 + 1)

def hL_X0_odds_69 (V : HEn) (o : Nat) (k44 : Gh → Nat → Int32 → Int32 → Option Nat → Int64 → Int32 → HO (Int32)) (k59 : Gh → Nat → Int32 → Int32 → Option Nat → Int64 → Int32 → Option Nat → Int32 → HO (Int32)) : Nat → Gh → Nat → Int32 → Int32 → Option Nat → Int64 → Int32 → Option Nat → Int32 → Int32 → HO (Int32)
  | 0, _, _, _, _, _, _, _, _, _, _ => none
  | n + 1, G, nx, l1, l2, l3, l4, l6, l7, l8, l9 =>
  if 5 ≤ l9 then (k59 G nx l1 l2 l3 l4 l6 l7 (l8 + 1))
  else (if gC G o 0 = true then cB (hF_X0_machine V G nx o) fun r17 G18 c19 => (r17).bind fun a24 => if gC G18 a24 7 = true then cB (hF_X8_step V G18 (nx + c19) a24 l8 l9) fun y27 G28 c29 => if y27 = (-5) then (hB_X0_odds_122 V o k44 k59 (hL_X0_odds_69 V o k44 k59 n) G28 ((nx + c19) + c29) l1 l2 l3 l4 l6 l7 l8 l9)
  else ((l7).bind fun a35 => (rdJ G28 (V.2.1 2) a35 y27).bind fun v37 => (l3).bind fun a39 => (rdJ G28 (V.2.1 2) a39 l8).bind fun v41 => (xR G28 o fl_RunWatch_now).bind fun r43 => (r43).bind fun a45 => (xR G28 a45 fl_RunWatch_Desk_plan).bind fun r47 => (r47).bind fun a49 => (xR G28 a49 fl_RunWatch_Plan_chances).bind fun r51 => (r51).bind fun a53 => (rdI G28 (V.2.1 0) a53 l9).bind fun v55 => (wrJ V.1 G28 (V.2.1 2) a35 y27 (v37 + (v41 * v55.toInt64))).bind fun G57 => hB_X0_odds_122 V o k44 k59 (hL_X0_odds_69 V o k44 k59 n) G57 ((nx + c19) + c29) l1 l2 (some a39) l4 l6 (some a35) l8 l9) else none else none)

def hL_X0_odds_59 (V : HEn) (o : Nat) (k44 : Gh → Nat → Int32 → Int32 → Option Nat → Int64 → Int32 → HO (Int32)) : Nat → Gh → Nat → Int32 → Int32 → Option Nat → Int64 → Int32 → Option Nat → Int32 → HO (Int32)
  | 0, _, _, _, _, _, _, _, _, _ => none
  | n + 1, G, nx, l1, l2, l3, l4, l6, l7, l8 =>
  (l3).bind fun a59 => (aln G (V.2.1 2) a59).bind fun n61 => if n61 ≤ l8 then (k44 G nx l1 l2 l7 (l4 * 10) (l6 + 1))
  else (hL_X0_odds_69 V o k44 (hL_X0_odds_59 V o k44 n) V.2.2.2.2 G nx l1 l2 (some a59) l4 l6 l7 l8 0)

def hL_X0_odds_44 (V : HEn) (o : Nat)  : Nat → Gh → Nat → Int32 → Int32 → Option Nat → Int64 → Int32 → HO (Int32)
  | 0, _, _, _, _, _, _, _ => none
  | n + 1, G, nx, l1, l2, l3, l4, l6 =>
  if l1 ≤ l6 then ((l3).bind fun a65 => (aln G (V.2.1 2) a65).bind fun n67 => hL_X0_odds_166 V o V.2.2.2.2 G nx l2 l4 l4 (some a65) n67 0)
  else ((l3).bind fun a69 => (aln G (V.2.1 2) a69).bind fun n71 => (gn n71).bind fun n73 => tick 1 n73 (hL_X0_odds_59 V o (hL_X0_odds_44 V o n) V.2.2.2.2 (gset G nx (.inl (V.2.1 2, n73, .inr (.inl (fun _ => 0))))) (nx + 1) l1 l2 (some a69) l4 l6 (some nx) 0))

def hF_X0_odds (V : HEn) (G : Gh) (nx : Nat) (o : Nat) (a0 : Int32) (a1 : Int32) : HO (Int32) :=
  cB (hF_X0_isIn V G nx a0 0 8) fun y177 G178 c179 => if y177 = 0 then (hB_X0_odds_19 V o G178 (nx + c179))
  else (cB (hF_X0_isIn V G178 (nx + c179) a1 0 1) fun y185 G186 c187 => if y185 = 0 then (hB_X0_odds_19 V o G186 ((nx + c179) + c187))
  else (if gC G186 o 0 = true then cB (hF_X0_machine V G186 ((nx + c179) + c187) o) fun r194 G195 c196 => (r194).bind fun a201 => if gC G195 a201 7 = true then cB (hF_X8_many V G195 (((nx + c179) + c187) + c196) a201) fun y204 G205 c206 => (gn y204).bind fun n211 => tick 1 n211 (if gC (gset G205 ((((nx + c179) + c187) + c196) + c206) (.inl (V.2.1 2, n211, .inr (.inl (fun _ => 0))))) o 0 = true then cB (hF_X0_stateNow V (gset G205 ((((nx + c179) + c187) + c196) + c206) (.inl (V.2.1 2, n211, .inr (.inl (fun _ => 0))))) (((((nx + c179) + c187) + c196) + c206) + 1) o) fun y216 G217 c218 => (wrJ V.1 G217 (V.2.1 2) ((((nx + c179) + c187) + c196) + c206) y216 1).bind fun G223 => hL_X0_odds_44 V o V.2.2.2.2 G223 ((((((nx + c179) + c187) + c196) + c206) + 1) + c218) a0 a1 (some ((((nx + c179) + c187) + c196) + c206)) 1 0 else none) else none else none))

/-! X0_row -/
def hB_X0_row_117 (V : HEn) (o : Nat)  (G : Gh) (nx : Nat) (s0 : Int32) : HO (Int32) :=
  some (s0, G, 0, 0)

def hF_X0_row (V : HEn) (G : Gh) (nx : Nat) (o : Nat) (a0 : Int32) (a1 : Int32) : HO (Int32) :=
  if gC G o 0 = true then cB (hF_X0_isRow V G nx o a0) fun y102 G103 c104 => if y102 = 0 then (some ((-1), G103, 0, 0))
  else ((xR G103 o fl_RunWatch_rows).bind fun r110 => (r110).bind fun a112 => if gC G103 a112 8 = true then cB (hF_J2_get V G103 (nx + c104) a112 a0) fun r115 G116 c117 => if gok G116 r115 [6] = true then if a1 = 0 then ((r115).bind fun a124 => (xI G116 a124 fl_RunWatch_Row_time).bind fun v126 => some (v126, G116, 0, 0))
  else (if a1 = 1 then ((r115).bind fun a129 => (xI G116 a129 fl_RunWatch_Row_sign).bind fun v131 => some (v131, G116, 0, 0))
  else (if a1 = 2 then ((r115).bind fun a134 => (xI G116 a134 fl_RunWatch_Row_met).bind fun v136 => some (v136, G116, 0, 0))
  else (if a1 = 3 then (if gC G116 o 0 = true then cB (hF_X0_machine V G116 ((nx + c104) + c117) o) fun r140 G141 c142 => (r115).bind fun a147 => (xI G141 a147 fl_RunWatch_Row_packed).bind fun v149 => (r140).bind fun a151 => if gC G141 a151 7 = true then cB (hF_X8_stateOf V G141 (((nx + c104) + c117) + c142) a151 v149) fun y154 G155 c156 => some (y154, G155, 0, 0) else none else none)
  else (if a1 = 4 then ((r115).bind fun a162 => (xI G116 a162 fl_RunWatch_Row_up).bind fun v164 => some (v164, G116, 0, 0))
  else (if a1 = 5 then ((r115).bind fun a167 => (xI G116 a167 fl_RunWatch_Row_down).bind fun v169 => some (v169, G116, 0, 0))
  else (if a1 = 6 then ((r115).bind fun a172 => (xI G116 a172 fl_RunWatch_Row_isSignal).bind fun v174 => if v174 = 0 then (hB_X0_row_117 V o G116 ((nx + c104) + c117) 0)
  else (hB_X0_row_117 V o G116 ((nx + c104) + c117) 1))
  else (some ((-1), G116, 0, 0)))))))) else none else none) else none

/-! X6_told -/
def hF_X6_told (V : HEn) (G : Gh) (nx : Nat) (o : Nat) (a0 : Int32) : HO (Int32) :=
  if a0 = 0 then ((xI G o fl_RunWatch_Rule_m).bind fun v102 => some (v102, G, 0, 0))
  else (if a0 = 1 then ((xI G o fl_RunWatch_Rule_n).bind fun v105 => some (v105, G, 0, 0))
  else ((xI G o fl_RunWatch_Rule_set).bind fun v107 => some (v107, G, 0, 0)))

/-! X0_rule -/
def hB_X0_rule_61 (V : HEn) (o : Nat)  (G : Gh) (nx : Nat) (s0 : Int32) : HO (Int32) :=
  some (s0, G, 0, 0)

def hB_X0_rule_60 (V : HEn) (o : Nat)  (G : Gh) (nx : Nat)  : HO (Int32) :=
  hB_X0_rule_61 V o G nx (-1)

def hF_X0_rule (V : HEn) (G : Gh) (nx : Nat) (o : Nat) (a0 : Int32) (a1 : Int32) : HO (Int32) :=
  (xR G o fl_RunWatch_now).bind fun r101 => (r101).bind fun a103 => (xR G a103 fl_RunWatch_Desk_plan).bind fun r105 => (r105).bind fun a107 => (xR G a107 fl_RunWatch_Plan_rules).bind fun r109 => (r109).bind fun a111 => if gC G a111 8 = true then cB (hF_J2_size V G nx a111) fun y114 G115 c116 => cB (hF_X0_isIn V G115 (nx + c116) a0 0 (y114 - 1)) fun y121 G122 c123 => if y121 = 0 then (hB_X0_rule_60 V o G122 ((nx + c116) + c123))
  else (cB (hF_X0_isIn V G122 ((nx + c116) + c123) a1 0 2) fun y129 G130 c131 => if y129 = 0 then (hB_X0_rule_60 V o G130 (((nx + c116) + c123) + c131))
  else ((xR G130 o fl_RunWatch_now).bind fun r137 => (r137).bind fun a139 => (xR G130 a139 fl_RunWatch_Desk_plan).bind fun r141 => (r141).bind fun a143 => (xR G130 a143 fl_RunWatch_Plan_rules).bind fun r145 => (r145).bind fun a147 => if gC G130 a147 8 = true then cB (hF_J2_get V G130 (((nx + c116) + c123) + c131) a147 a0) fun r150 G151 c152 => if gok G151 r150 [5] = true then (r150).bind fun a158 => if gC G151 a158 5 = true then cB (hF_X6_told V G151 ((((nx + c116) + c123) + c131) + c152) a158 a1) fun y161 G162 c163 => hB_X0_rule_61 V o G162 (((((nx + c116) + c123) + c131) + c152) + c163) y161 else none else none else none)) else none

/-! X9_isOne -/
def hB_X9_isOne_33 (V : HEn)  (G : Gh) (nx : Nat) (s0 : Int32) : HO (Int32) :=
  if vp_nar .boolean s0 = s0 then some (s0, G, 0, 0) else none

def hB_X9_isOne_32 (V : HEn)  (G : Gh) (nx : Nat)  : HO (Int32) :=
  hB_X9_isOne_33 V G nx 0

def hF_X9_isOne (V : HEn) (G : Gh) (nx : Nat) (a0 : Int32) (a1 : Int32) (a2 : Int32) : HO (Int32) :=
  cB (hF_X0_isIn V G nx a1 1 4) fun y102 G103 c104 => if y102 = 0 then (hB_X9_isOne_32 V G103 (nx + c104))
  else (cB (hF_X0_isIn V G103 (nx + c104) a0 1 a1) fun y110 G111 c112 => if y110 = 0 then (hB_X9_isOne_32 V G111 ((nx + c104) + c112))
  else (cB (hF_X0_isIn V G111 ((nx + c104) + c112) a2 1 31) fun y118 G119 c120 => if y118 = 0 then (hB_X9_isOne_32 V G119 (((nx + c104) + c112) + c120))
  else (hB_X9_isOne_33 V G119 (((nx + c104) + c112) + c120) 1)))

/-! X6_init -/
def hF_X6_init (V : HEn) (G : Gh) (nx : Nat) (o : Nat) (a0 : Int32) (a1 : Int32) (a2 : Int32) : HO (Unit) :=
  (xF V.1 G o fl_RunWatch_Rule_m (.int a0)).bind fun G101 => (xF V.1 G101 o fl_RunWatch_Rule_n (.int a1)).bind fun G103 => (xF V.1 G103 o fl_RunWatch_Rule_set (.int a2)).bind fun G105 => some ((), G105, 0, 0)

/-! X9_of -/
def hF_X9_of (V : HEn) (G : Gh) (nx : Nat) (a0 : Int32) (a1 : Int32) (a2 : Int32) : HO (Option Nat) :=
  tick 1 3 (cB (hF_X6_init V (gset G nx (.inr (5, [.int 0, .int 0, .int 0]))) (nx + 1) nx a0 a1 a2) fun y103 G104 c105 => some ((some nx), G104, 0, 0))

/-! X0_same -/
def hB_X0_same_110 (V : HEn) (o : Nat)  (G : Gh) (nx : Nat) (s0 : Int32) : HO (Int32) :=
  some (s0, G, 0, 0)

def hB_X0_same_95 (V : HEn) (o : Nat) (k21 : Gh → Nat → Int32 → Int32 → Int32 → Int32 → HO (Int32)) (G : Gh) (nx : Nat) (l1 : Int32) (l2 : Int32) (l3 : Int32) (l4 : Int32) : HO (Int32) :=
  k21 G nx l1 l2 l3 (l4 + 1)

def hB_X0_same_91 (V : HEn) (o : Nat) (k21 : Gh → Nat → Int32 → Int32 → Int32 → Int32 → HO (Int32)) (G : Gh) (nx : Nat) (s0 : Int32) (l1 : Int32) (l2 : Int32) (l4 : Int32) : HO (Int32) :=
  hB_X0_same_95 V o k21 G nx l1 (l2 + 1) s0 l4

def hL_X0_same_21 (V : HEn) (o : Nat)  : Nat → Gh → Nat → Int32 → Int32 → Int32 → Int32 → HO (Int32)
  | 0, _, _, _, _, _, _ => none
  | n + 1, G, nx, l1, l2, l3, l4 =>
  if 5000 ≤ l4 then (if l1 = 0 then (hB_X0_same_110 V o G nx l2)
  else (hB_X0_same_110 V o G nx l3))
  else (cB (hF_X9_isOne V G nx ((l4 / 100) - (l4 / 100) / 10 * 10) (l4 / 1000) (l4 - l4 / 100 * 100)) fun y3 G4 c5 => if y3 = 0 then (hB_X0_same_95 V o (hL_X0_same_21 V o n) G4 (nx + c5) l1 l2 l3 l4)
  else (cB (hF_X9_of V G4 (nx + c5) ((l4 / 100) - (l4 / 100) / 10 * 10) (l4 / 1000) (l4 - l4 / 100 * 100)) fun r11 G12 c13 => if gC G12 o 0 = true then cB (hF_X0_isSame V G12 ((nx + c5) + c13) o r11) fun y19 G20 c21 => if y19 = 0 then (hB_X0_same_95 V o (hL_X0_same_21 V o n) G20 (((nx + c5) + c13) + c21) l1 l2 l3 l4)
  else (if l2 = 0 then (hB_X0_same_91 V o (hL_X0_same_21 V o n) G20 (((nx + c5) + c13) + c21) l4 l1 l2 l4)
  else (hB_X0_same_91 V o (hL_X0_same_21 V o n) G20 (((nx + c5) + c13) + c21) l3 l1 l2 l4)) else none))

def hF_X0_same (V : HEn) (G : Gh) (nx : Nat) (o : Nat) (a0 : Int32) : HO (Int32) :=
  cB (hF_X0_isIn V G nx a0 0 1) fun y128 G129 c130 => if y128 = 0 then (some ((-1), G129, 0, 0))
  else (hL_X0_same_21 V o V.2.2.2.2 G129 (nx + c130) a0 0 (-9) 1000)

/-! X0_signal -/
def hF_X0_signal (V : HEn) (G : Gh) (nx : Nat) (o : Nat) (a0 : Int32) : HO (Int32) :=
  if gC G o 0 = true then cB (hF_X0_time V G nx o a0 (some (V.2.2.2.1 31))) fun y102 G103 c104 => some (y102, G103, 0, 0) else none

/-! X0_soonest -/
def hB_X0_soonest_43 (V : HEn) (o : Nat)  (G : Gh) (nx : Nat) (s0 : Int32) : HO (Int32) :=
  some (s0, G, 0, 0)

def hB_X0_soonest_32 (V : HEn) (o : Nat)  (G : Gh) (nx : Nat) (l1 : Int32) (l4 : Int32) : HO (Int32) :=
  if 0 ≤ l1 then (hB_X0_soonest_43 V o G nx (-9))
  else (hB_X0_soonest_43 V o G nx l4)

def hB_X0_soonest_107 (V : HEn) (o : Nat) (k47 : Gh → Nat → Int32 → Option Nat → Int32 → Int32 → HO (Int32)) (G : Gh) (nx : Nat) (l1 : Int32) (l2 : Option Nat) (l3 : Int32) (l5 : Int32) (l6 : Int32) : HO (Int32) :=
  if l5 = l1 then (some (l6, G, 0, 0))
  else (if gC G o 0 = true then cB (hF_X0_machine V G nx o) fun r4 G5 c6 => (r4).bind fun a11 => if gC G5 a11 7 = true then cB (hF_X8_step V G5 (nx + c6) a11 l3 l6) fun y14 G15 c16 => k47 G15 ((nx + c6) + c16) l1 l2 y14 (l5 + 1) else none else none)

def hB_X0_soonest_101 (V : HEn) (o : Nat) (k47 : Gh → Nat → Int32 → Option Nat → Int32 → Int32 → HO (Int32)) (k56 : Gh → Nat → Int32 → Option Nat → Int32 → Int32 → Int32 → HO (Int32)) (G : Gh) (nx : Nat) (l1 : Int32) (l2 : Option Nat) (l3 : Int32) (l5 : Int32) (l6 : Int32) : HO (Int32) :=
  k56 G nx l1 l2 l3 l5 (l6 + 1)

def hL_X0_soonest_56 (V : HEn) (o : Nat) (k47 : Gh → Nat → Int32 → Option Nat → Int32 → Int32 → HO (Int32)) : Nat → Gh → Nat → Int32 → Option Nat → Int32 → Int32 → Int32 → HO (Int32)
  | 0, _, _, _, _, _, _, _ => none
  | n + 1, G, nx, l1, l2, l3, l5, l6 =>
  if gC G o 0 = true then cB (hF_X0_machine V G nx o) fun r22 G23 c24 => (r22).bind fun a29 => if gC G23 a29 7 = true then cB (hF_X8_step V G23 (nx + c24) a29 l3 l6) fun y32 G33 c34 => if y32 = (-5) then ((l2).bind fun a40 => (rdI G33 (V.2.1 0) a40 l3).bind fun v42 => if v42 ≤ 1 then (hB_X0_soonest_107 V o k47 G33 ((nx + c24) + c34) l1 (some a40) l3 l5 l6)
  else (hB_X0_soonest_101 V o k47 (hL_X0_soonest_56 V o k47 n) G33 ((nx + c24) + c34) l1 (some a40) l3 l5 l6))
  else (if gC G33 o 0 = true then cB (hF_X0_machine V G33 ((nx + c24) + c34) o) fun r46 G47 c48 => (r46).bind fun a53 => if gC G47 a53 7 = true then cB (hF_X8_step V G47 (((nx + c24) + c34) + c48) a53 l3 l6) fun y56 G57 c58 => (l2).bind fun a63 => (rdI G57 (V.2.1 0) a63 y56).bind fun v65 => (rdI G57 (V.2.1 0) a63 l3).bind fun v67 => if v65 = (v67 - 1) then (hB_X0_soonest_107 V o k47 G57 ((((nx + c24) + c34) + c48) + c58) l1 (some a63) l3 l5 l6)
  else (hB_X0_soonest_101 V o k47 (hL_X0_soonest_56 V o k47 n) G57 ((((nx + c24) + c34) + c48) + c58) l1 (some a63) l3 l5 l6) else none else none) else none else none

def hL_X0_soonest_47 (V : HEn) (o : Nat)  : Nat → Gh → Nat → Int32 → Option Nat → Int32 → Int32 → HO (Int32)
  | 0, _, _, _, _, _, _ => none
  | n + 1, G, nx, l1, l2, l3, l5 =>
  if l1 < l5 then (some ((-9), G, 0, 0))
  else (hL_X0_soonest_56 V o (hL_X0_soonest_47 V o n) V.2.2.2.2 G nx l1 l2 l3 l5 0)

def hF_X0_soonest (V : HEn) (G : Gh) (nx : Nat) (o : Nat) (a0 : Int32) : HO (Int32) :=
  if (-1) ≤ a0 then (if gC G o 0 = true then cB (hF_X0_fars V G nx o) fun r173 G174 c175 => if gC G174 o 0 = true then cB (hF_X0_stateNow V G174 (nx + c175) o) fun y181 G182 c183 => (r173).bind fun a188 => (rdI G182 (V.2.1 0) a188 y181).bind fun v190 => if a0 < 0 then (hB_X0_soonest_32 V o G182 ((nx + c175) + c183) a0 v190)
  else (if a0 < v190 then (hL_X0_soonest_47 V o V.2.2.2.2 G182 ((nx + c175) + c183) a0 (some a188) y181 0)
  else (hB_X0_soonest_32 V o G182 ((nx + c175) + c183) a0 v190)) else none else none)
  else (some ((-1), G, 0, 0))

/-! X0_step -/
def hB_X0_step_37 (V : HEn) (o : Nat)  (G : Gh) (nx : Nat) (s0 : Int32) : HO (Int32) :=
  some (s0, G, 0, 0)

def hB_X0_step_36 (V : HEn) (o : Nat)  (G : Gh) (nx : Nat)  : HO (Int32) :=
  hB_X0_step_37 V o G nx (-1)

def hF_X0_step (V : HEn) (G : Gh) (nx : Nat) (o : Nat) (a0 : Int32) (a1 : Int32) : HO (Int32) :=
  if gC G o 0 = true then cB (hF_X0_machine V G nx o) fun r102 G103 c104 => (r102).bind fun a109 => if gC G103 a109 7 = true then cB (hF_X8_many V G103 (nx + c104) a109) fun y112 G113 c114 => cB (hF_X0_isIn V G113 ((nx + c104) + c114) a0 0 (y112 - 1)) fun y119 G120 c121 => if y119 = 0 then (hB_X0_step_36 V o G120 (((nx + c104) + c114) + c121))
  else (cB (hF_X0_isSign V G120 (((nx + c104) + c114) + c121) a1) fun y127 G128 c129 => if y127 = 0 then (hB_X0_step_36 V o G128 ((((nx + c104) + c114) + c121) + c129))
  else (if gC G128 o 0 = true then cB (hF_X0_machine V G128 ((((nx + c104) + c114) + c121) + c129) o) fun r136 G137 c138 => (r136).bind fun a143 => if gC G137 a143 7 = true then cB (hF_X8_step V G137 (((((nx + c104) + c114) + c121) + c129) + c138) a143 a0 a1) fun y146 G147 c148 => hB_X0_step_37 V o G147 ((((((nx + c104) + c114) + c121) + c129) + c138) + c148) y146 else none else none)) else none else none

/-! X4_init -/
def hF_X4_init (V : HEn) (G : Gh) (nx : Nat) (o : Nat) (a0 : Option Nat) : HO (Unit) :=
  tick 1 5 (cB (hF_X2_init V (gset G nx (.inr (2, [.null, .null, .int 0, .int 0, .null]))) (nx + 1) nx) fun y103 G104 c105 => (xF V.1 G104 o fl_RunWatch_Reader_plan (va_rf (some nx))).bind fun G110 => (xF V.1 G110 o fl_RunWatch_Reader_word (va_rf (some (V.2.2.2.1 0)))).bind fun G112 => (xF V.1 G112 o fl_RunWatch_Reader_once (va_rf (some (V.2.2.2.1 0)))).bind fun G114 => (xF V.1 G114 o fl_RunWatch_Reader_told (va_rf a0)).bind fun G116 => some ((), G116, 0, 0))

/-! J7_length -/
def hF_J7_length (V : HEn) (G : Gh) (nx : Nat) (o : Nat) : HO (Int32) :=
  (xR G o fl_String_value).bind fun r101 => (r101).bind fun a103 => (aln G (V.2.1 1) a103).bind fun n105 => if gC G o 25 = true then cB (hF_J7_coder V G nx o) fun y108 G109 c110 => some ((n105 >>> (y108 &&& 31)), G109, 0, 0) else none

/-! J7_checkIndex -/
def hF_J7_checkIndex (V : HEn) (G : Gh) (nx : Nat) (a0 : Int32) (a1 : Int32) : HO (Unit) :=
  cB (hF_J13_checkIndex V G nx a0 a1 (V.2.2.1 4)) fun y101 G102 c103 => some ((), G102, 0, 0)

/-! J12_charAt -/
def hF_J12_charAt (V : HEn) (G : Gh) (nx : Nat) (a0 : Option Nat) (a1 : Int32) : HO (Int32) :=
  (a0).bind fun a101 => (aln G (V.2.1 1) a101).bind fun n103 => cB (hF_J7_checkIndex V G nx a1 n103) fun y105 G106 c107 => (rdI G106 (V.2.1 1) a101 a1).bind fun v112 => if vp_nar .char (((v112 &&& 255).toUInt32 % 65536).toInt32) = (((v112 &&& 255).toUInt32 % 65536).toInt32) then some ((((v112 &&& 255).toUInt32 % 65536).toInt32), G106, 0, 0) else none

/-! J7_charAt -/
def hF_J7_charAt (V : HEn) (G : Gh) (nx : Nat) (o : Nat) (a0 : Int32) : HO (Int32) :=
  if gC G o 25 = true then cB (hF_J7_isLatin1 V G nx o) fun y102 G103 c104 => if y102 = 0 then (none)
  else ((xR G103 o fl_String_value).bind fun r110 => cB (hF_J12_charAt V G103 (nx + c104) r110 a0) fun y112 G113 c114 => if vp_nar .char y112 = y112 then some (y112, G113, 0, 0) else none) else none

/-! X4_isOf -/
def hB_X4_isOf_49 (V : HEn) (o : Nat)  (G : Gh) (nx : Nat) (s0 : Int32) : HO (Int32) :=
  if vp_nar .boolean s0 = s0 then some (s0, G, 0, 0) else none

def hB_X4_isOf_48 (V : HEn) (o : Nat)  (G : Gh) (nx : Nat)  : HO (Int32) :=
  hB_X4_isOf_49 V o G nx 0

def hF_X4_isOf (V : HEn) (G : Gh) (nx : Nat) (o : Nat) (a0 : Int32) (a1 : Int32) : HO (Int32) :=
  (xI G o fl_RunWatch_Reader_at).bind fun v102 => (xR G o fl_RunWatch_Reader_told).bind fun r104 => (r104).bind fun a106 => if gC G a106 25 = true then cB (hF_J7_length V G nx a106) fun y109 G110 c111 => if y109 ≤ v102 then (hB_X4_isOf_48 V o G110 (nx + c111))
  else ((xR G110 o fl_RunWatch_Reader_told).bind fun r117 => (xI G110 o fl_RunWatch_Reader_at).bind fun v119 => (r117).bind fun a121 => if gC G110 a121 25 = true then cB (hF_J7_charAt V G110 (nx + c111) a121 v119) fun y124 G125 c126 => if y124 < a0 then (hB_X4_isOf_48 V o G125 ((nx + c111) + c126))
  else ((xR G125 o fl_RunWatch_Reader_told).bind fun r132 => (xI G125 o fl_RunWatch_Reader_at).bind fun v134 => (r132).bind fun a136 => if gC G125 a136 25 = true then cB (hF_J7_charAt V G125 ((nx + c111) + c126) a136 v134) fun y139 G140 c141 => if a1 < y139 then (hB_X4_isOf_48 V o G140 (((nx + c111) + c126) + c141))
  else (hB_X4_isOf_49 V o G140 (((nx + c111) + c126) + c141) 1) else none) else none) else none

/-! J14_init_2 -/
def hB_J14_init_2_60 (V : HEn) (o : Nat)  (G : Gh) (nx : Nat)  : HO (Unit) :=
  some ((), G, 0, 0)

def hF_J14_init_2 (V : HEn) (G : Gh) (nx : Nat) (o : Nat) (a0 : Option Nat) (a1 : Option Nat) (a2 : Int32) (a3 : Int32) : HO (Unit) :=
  (xF V.1 G o fl_Throwable_cause (va_rf (some o))).bind fun G101 => (xF V.1 G101 o fl_Throwable_stackTrace (va_rf (V.2.2.1 5))).bind fun G103 => (xF V.1 G103 o fl_Throwable_suppressedExceptions (va_rf (V.2.2.1 6))).bind fun G105 => if a3 = 0 then ((xF V.1 G105 o fl_Throwable_stackTrace (va_rf none)).bind fun G108 => (xF V.1 G108 o fl_Throwable_detailMessage (va_rf a0)).bind fun G110 => (xF V.1 G110 o fl_Throwable_cause (va_rf a1)).bind fun G112 => if a2 = 0 then ((xF V.1 G112 o fl_Throwable_suppressedExceptions (va_rf none)).bind fun G115 => hB_J14_init_2_60 V o G115 nx)
  else (hB_J14_init_2_60 V o G112 nx))
  else (none)

/-! J15_init -/
def hF_J15_init (V : HEn) (G : Gh) (nx : Nat) (o : Nat) (a0 : Option Nat) (a1 : Option Nat) (a2 : Int32) (a3 : Int32) : HO (Unit) :=
  cB (hF_J14_init_2 V G nx o a0 a1 a2 a3) fun y101 G102 c103 => some ((), G102, 0, 0)

/-! X5_init -/
def hF_X5_init (V : HEn) (G : Gh) (nx : Nat) (o : Nat) (a0 : Int32) : HO (Unit) :=
  cB (hF_J15_init V G nx o none none 0 0) fun y101 G102 c103 => (xF V.1 G102 o fl_RunWatch_Fault_at (.int a0)).bind fun G108 => some ((), G108, 0, 0)

/-! X4_wants -/
def hF_X4_wants (V : HEn) (G : Gh) (nx : Nat) (o : Nat) (a0 : Int32) : HO ((Unit) ⊕ Nat) :=
  if a0 = 0 then (tick 1 7 ((xI (gset G nx (.inr (4, [.null, .null, .null, .null, .null, .int 0, .int 0]))) o fl_RunWatch_Reader_begin).bind fun v104 => cB (hF_X5_init V (gset G nx (.inr (4, [.null, .null, .null, .null, .null, .int 0, .int 0]))) (nx + 1) nx v104) fun y106 G107 c108 => if gC G107 nx 4 = true then some (.inr nx, G107, 0, 0) else none))
  else (some (.inl (), G, 0, 0))

/-! J13_checkFromToIndex -/
def hB_J13_checkFromToIndex_14 (V : HEn)  (G : Gh) (nx : Nat) (l3 : Option Nat) : HO (Int32) :=
  none

def hF_J13_checkFromToIndex (V : HEn) (G : Gh) (nx : Nat) (a0 : Int32) (a1 : Int32) (a2 : Int32) (a3 : Option Nat) : HO (Int32) :=
  if a0 < 0 then (hB_J13_checkFromToIndex_14 V G nx a3)
  else (if a1 < a0 then (hB_J13_checkFromToIndex_14 V G nx a3)
  else (if a1 ≤ a2 then (some (a0, G, 0, 0))
  else (hB_J13_checkFromToIndex_14 V G nx a3)))

/-! J7_checkBoundsBeginEnd -/
def hF_J7_checkBoundsBeginEnd (V : HEn) (G : Gh) (nx : Nat) (a0 : Int32) (a1 : Int32) (a2 : Int32) : HO (Unit) :=
  cB (hF_J13_checkFromToIndex V G nx a0 a1 a2 (V.2.2.1 4)) fun y101 G102 c103 => some ((), G102, 0, 0)

/-! J7_init_3 -/
def hF_J7_init_3 (V : HEn) (G : Gh) (nx : Nat) (o : Nat) (a0 : Option Nat) (a1 : Int32) : HO (Unit) :=
  (xF V.1 G o fl_String_value (va_rf a0)).bind fun G101 => if vp_nar .byte a1 = a1 then (xF V.1 G101 o fl_String_coder (.int a1)).bind fun G104 => some ((), G104, 0, 0) else none

/-! J12_newString -/
def hF_J12_newString (V : HEn) (G : Gh) (nx : Nat) (a0 : Option Nat) (a1 : Int32) (a2 : Int32) : HO (Option Nat) :=
  if a2 = 0 then (some ((some (V.2.2.2.1 6)), G, 0, 0))
  else (tick 1 4 (cB (hF_J11_copyOfRange V (gset G nx (.inr (25, [.null, .int 0, .int 0, .int 0]))) (nx + 1) a0 a1 (a1 + a2)) fun r104 G105 c106 => cB (hF_J7_init_3 V G105 ((nx + 1) + c106) nx r104 0) fun y111 G112 c113 => some ((some nx), G112, 0, 0)))

/-! J7_substring -/
def hB_J7_substring_22 (V : HEn) (o : Nat)  (G : Gh) (nx : Nat) (l1 : Int32) (l2 : Int32) : HO (Option Nat) :=
  if gC G o 25 = true then cB (hF_J7_isLatin1 V G nx o) fun y2 G3 c4 => if y2 = 0 then (none)
  else ((xR G3 o fl_String_value).bind fun r10 => cB (hF_J12_newString V G3 (nx + c4) r10 l1 (l2 - l1)) fun r12 G13 c14 => some (r12, G13, 0, 0)) else none

def hF_J7_substring (V : HEn) (G : Gh) (nx : Nat) (o : Nat) (a0 : Int32) (a1 : Int32) : HO (Option Nat) :=
  if gC G o 25 = true then cB (hF_J7_length V G nx o) fun y120 G121 c122 => cB (hF_J7_checkBoundsBeginEnd V G121 (nx + c122) a0 a1 y120) fun y127 G128 c129 => if a0 = 0 then (if a1 = y120 then (some ((some o), G128, 0, 0))
  else (hB_J7_substring_22 V o G128 ((nx + c122) + c129) a0 a1))
  else (hB_J7_substring_22 V o G128 ((nx + c122) + c129) a0 a1) else none

/-! X4_next -/
def hB_X4_next_420 (V : HEn) (o : Nat)  (G : Gh) (nx : Nat)  : HO ((Unit) ⊕ Nat) :=
  some (.inl (), G, 0, 0)

def hB_X4_next_375 (V : HEn) (o : Nat)  (G : Gh) (nx : Nat) (l2 : Int32) : HO ((Unit) ⊕ Nat) :=
  if l2 = 0 then (hB_X4_next_420 V o G nx)
  else (if l2 = 1 then (hB_X4_next_420 V o G nx)
  else (if l2 = 2 then (hB_X4_next_420 V o G nx)
  else (if l2 = 3 then (hB_X4_next_420 V o G nx)
  else (if l2 = 4 then (hB_X4_next_420 V o G nx)
  else (if gC G o 3 = true then xB (hF_X4_wants V G nx o 0) fun y7 G8 c9 => hB_X4_next_420 V o G8 (nx + c9) else none)))))

def hB_X4_next_222 (V : HEn) (o : Nat)  (G : Gh) (nx : Nat) (s0 : Option Nat) (s1 : Int32) (s2 : Int32) : HO ((Unit) ⊕ Nat) :=
  (s0).bind fun a16 => (xF V.1 G a16 fl_RunWatch_Reader_at (.int (s1 + s2))).bind fun G18 => (xR G18 o fl_RunWatch_Reader_told).bind fun r20 => (xI G18 o fl_RunWatch_Reader_begin).bind fun v22 => (xI G18 o fl_RunWatch_Reader_at).bind fun v24 => (r20).bind fun a26 => if gC G18 a26 25 = true then cB (hF_J7_substring V G18 nx a26 v22 v24) fun r29 G30 c31 => (xF V.1 G30 o fl_RunWatch_Reader_word (va_rf r29)).bind fun G36 => (xR G36 o fl_RunWatch_Reader_word).bind fun r38 => (r38).bind fun a40 => if gC G36 a40 25 = true then cB (hF_J7_hashCode V G36 (nx + c31) a40) fun y43 G44 c45 => if y43 = (-1361636556) then (if gC G44 a40 25 = true then cB (hF_J7_equals V G44 ((nx + c31) + c45) a40 (some (V.2.2.2.1 4))) fun y52 G53 c54 => if y52 = 0 then (hB_X4_next_375 V o G53 (((nx + c31) + c45) + c54) (-1))
  else (hB_X4_next_375 V o G53 (((nx + c31) + c45) + c54) 3) else none)
  else (if y43 = 0 then (if gC G44 a40 25 = true then cB (hF_J7_equals V G44 ((nx + c31) + c45) a40 (some (V.2.2.2.1 0))) fun y62 G63 c64 => if y62 = 0 then (hB_X4_next_375 V o G63 (((nx + c31) + c45) + c64) (-1))
  else (hB_X4_next_375 V o G63 (((nx + c31) + c45) + c64) 0) else none)
  else (if y43 = 59 then (if gC G44 a40 25 = true then cB (hF_J7_equals V G44 ((nx + c31) + c45) a40 (some (V.2.2.2.1 2))) fun y72 G73 c74 => if y72 = 0 then (hB_X4_next_375 V o G73 (((nx + c31) + c45) + c74) (-1))
  else (hB_X4_next_375 V o G73 (((nx + c31) + c45) + c74) 1) else none)
  else (if y43 = 3512060 then (if gC G44 a40 25 = true then cB (hF_J7_equals V G44 ((nx + c31) + c45) a40 (some (V.2.2.2.1 3))) fun y82 G83 c84 => if y82 = 0 then (hB_X4_next_375 V o G83 (((nx + c31) + c45) + c84) (-1))
  else (hB_X4_next_375 V o G83 (((nx + c31) + c45) + c84) 2) else none)
  else (if y43 = 3541896 then (if gC G44 a40 25 = true then cB (hF_J7_equals V G44 ((nx + c31) + c45) a40 (some (V.2.2.2.1 5))) fun y92 G93 c94 => if y92 = 0 then (hB_X4_next_375 V o G93 (((nx + c31) + c45) + c94) (-1))
  else (hB_X4_next_375 V o G93 (((nx + c31) + c45) + c94) 4) else none)
  else (hB_X4_next_375 V o G44 ((nx + c31) + c45) (-1)))))) else none else none

def hB_X4_next_221 (V : HEn) (o : Nat)  (G : Gh) (nx : Nat) (s0 : Option Nat) (s1 : Int32) : HO ((Unit) ⊕ Nat) :=
  hB_X4_next_222 V o G nx s0 s1 0

def hL_X4_next_163 (V : HEn) (o : Nat)  : Nat → Gh → Nat → HO ((Unit) ⊕ Nat)
  | 0, _, _ => none
  | n + 1, G, nx =>
  if gC G o 3 = true then cB (hF_X4_isOf V G nx o 97 122) fun y101 G102 c103 => if y101 = 0 then ((xI G102 o fl_RunWatch_Reader_at).bind fun v109 => (xI G102 o fl_RunWatch_Reader_at).bind fun v111 => (xI G102 o fl_RunWatch_Reader_begin).bind fun v113 => if v111 = v113 then ((xI G102 o fl_RunWatch_Reader_at).bind fun v116 => (xR G102 o fl_RunWatch_Reader_told).bind fun r118 => (r118).bind fun a120 => if gC G102 a120 25 = true then cB (hF_J7_length V G102 (nx + c103) a120) fun y123 G124 c125 => if y123 ≤ v116 then (hB_X4_next_221 V o G124 ((nx + c103) + c125) (some o) v109)
  else (hB_X4_next_222 V o G124 ((nx + c103) + c125) (some o) v109 1) else none)
  else (hB_X4_next_221 V o G102 (nx + c103) (some o) v109))
  else ((xI G102 o fl_RunWatch_Reader_at).bind fun v131 => (xF V.1 G102 o fl_RunWatch_Reader_at (.int (v131 + 1))).bind fun G133 => (hL_X4_next_163 V o n) G133 (nx + c103)) else none

def hB_X4_next_153 (V : HEn) (o : Nat)  (G : Gh) (nx : Nat) (s0 : Option Nat) (s1 : Int32) : HO ((Unit) ⊕ Nat) :=
  (s0).bind fun a135 => if gC G a135 3 = true then xB (hF_X4_wants V G nx a135 s1) fun y138 G139 c140 => (xF V.1 G139 o fl_RunWatch_Reader_word (va_rf (some (V.2.2.2.1 1)))).bind fun G147 => some (.inl (), G147, 0, 0) else none

def hB_X4_next_152 (V : HEn) (o : Nat)  (G : Gh) (nx : Nat) (s0 : Option Nat) : HO ((Unit) ⊕ Nat) :=
  hB_X4_next_153 V o G nx s0 0

def hB_X4_next_148 (V : HEn) (o : Nat)  (G : Gh) (nx : Nat) (s0 : Option Nat) : HO ((Unit) ⊕ Nat) :=
  hB_X4_next_153 V o G nx s0 1

def hL_X4_next_54 (V : HEn) (o : Nat)  : Nat → Gh → Nat → HO ((Unit) ⊕ Nat)
  | 0, _, _ => none
  | n + 1, G, nx =>
  if gC G o 3 = true then cB (hF_X4_isOf V G nx o 48 57) fun y150 G151 c152 => if y150 = 0 then ((xI G151 o fl_RunWatch_Reader_number).bind fun v158 => if 99 < v158 then (hB_X4_next_152 V o G151 (nx + c152) (some o))
  else ((xR G151 o fl_RunWatch_Reader_told).bind fun r161 => (xI G151 o fl_RunWatch_Reader_begin).bind fun v163 => (r161).bind fun a165 => if gC G151 a165 25 = true then cB (hF_J7_charAt V G151 (nx + c152) a165 v163) fun y168 G169 c170 => if y168 = 48 then ((xI G169 o fl_RunWatch_Reader_at).bind fun v176 => (xI G169 o fl_RunWatch_Reader_begin).bind fun v178 => if v176 = (v178 + 1) then (hB_X4_next_148 V o G169 ((nx + c152) + c170) (some o))
  else (hB_X4_next_152 V o G169 ((nx + c152) + c170) (some o)))
  else (hB_X4_next_148 V o G169 ((nx + c152) + c170) (some o)) else none))
  else ((xI G151 o fl_RunWatch_Reader_number).bind fun v181 => (xR G151 o fl_RunWatch_Reader_told).bind fun r183 => (xI G151 o fl_RunWatch_Reader_at).bind fun v185 => (r183).bind fun a187 => if gC G151 a187 25 = true then cB (hF_J7_charAt V G151 (nx + c152) a187 v185) fun y190 G191 c192 => (xF V.1 G191 o fl_RunWatch_Reader_number (.int (if (((10 * v181) + y190) - 48) < (100 : Int32) then (((10 * v181) + y190) - 48) else (100 : Int32)))).bind fun G197 => (xI G197 o fl_RunWatch_Reader_at).bind fun v199 => (xF V.1 G197 o fl_RunWatch_Reader_at (.int (v199 + 1))).bind fun G201 => (hL_X4_next_54 V o n) G201 ((nx + c152) + c192) else none) else none

def hL_X4_next_0 (V : HEn) (o : Nat)  : Nat → Gh → Nat → HO ((Unit) ⊕ Nat)
  | 0, _, _ => none
  | n + 1, G, nx =>
  if gC G o 3 = true then cB (hF_X4_isOf V G nx o 32 32) fun y204 G205 c206 => if y204 = 0 then ((xI G205 o fl_RunWatch_Reader_at).bind fun v212 => (xF V.1 G205 o fl_RunWatch_Reader_begin (.int v212)).bind fun G214 => (xF V.1 G214 o fl_RunWatch_Reader_number (.int (-9))).bind fun G216 => if gC G216 o 3 = true then cB (hF_X4_isOf V G216 (nx + c206) o 48 57) fun y219 G220 c221 => if y219 = 0 then (hL_X4_next_163 V o V.2.2.2.2 G220 ((nx + c206) + c221))
  else ((xF V.1 G220 o fl_RunWatch_Reader_number (.int 0)).bind fun G227 => hL_X4_next_54 V o V.2.2.2.2 G227 ((nx + c206) + c221)) else none)
  else ((xI G205 o fl_RunWatch_Reader_at).bind fun v229 => (xF V.1 G205 o fl_RunWatch_Reader_at (.int (v229 + 1))).bind fun G231 => (hL_X4_next_0 V o n) G231 (nx + c206)) else none

def hF_X4_next (V : HEn) (G : Gh) (nx : Nat) (o : Nat) : HO ((Unit) ⊕ Nat) :=
  hL_X4_next_0 V o V.2.2.2.2 G nx

/-! J7_isEmpty -/
def hB_J7_isEmpty_13 (V : HEn) (o : Nat)  (G : Gh) (nx : Nat) (s0 : Int32) : HO (Int32) :=
  if vp_nar .boolean s0 = s0 then some (s0, G, 0, 0) else none

def hF_J7_isEmpty (V : HEn) (G : Gh) (nx : Nat) (o : Nat) : HO (Int32) :=
  (xR G o fl_String_value).bind fun r102 => (r102).bind fun a104 => (aln G (V.2.1 1) a104).bind fun n106 => if n106 = 0 then (hB_J7_isEmpty_13 V o G nx 1)
  else (hB_J7_isEmpty_13 V o G nx 0)

/-! J7_toString -/
def hF_J7_toString (V : HEn) (G : Gh) (nx : Nat) (o : Nat) : HO (Option Nat) :=
  some ((some o), G, 0, 0)

/-! J12_indexOf_2 -/
def hB_J12_indexOf_2_113 (V : HEn) (k14 : Gh → Nat → Option Nat → Option Nat → Int32 → Int32 → Int32 → Int32 → HO (Int32)) (G : Gh) (nx : Nat) (l0 : Option Nat) (l2 : Option Nat) (l3 : Int32) (l5 : Int32) (l6 : Int32) (l7 : Int32) : HO (Int32) :=
  k14 G nx l0 l2 l3 l5 l6 (l7 + 1)

def hB_J12_indexOf_2_103 (V : HEn) (k14 : Gh → Nat → Option Nat → Option Nat → Int32 → Int32 → Int32 → Int32 → HO (Int32)) (G : Gh) (nx : Nat) (l0 : Option Nat) (l2 : Option Nat) (l3 : Int32) (l5 : Int32) (l6 : Int32) (l7 : Int32) (l8 : Int32) (l9 : Int32) : HO (Int32) :=
  if l8 = l9 then (some (l7, G, 0, 0))
  else (hB_J12_indexOf_2_113 V k14 G nx l0 l2 l3 l5 l6 l7)

def hL_J12_indexOf_2_76 (V : HEn) (k14 : Gh → Nat → Option Nat → Option Nat → Int32 → Int32 → Int32 → Int32 → HO (Int32)) : Nat → Gh → Nat → Option Nat → Option Nat → Int32 → Int32 → Int32 → Int32 → Int32 → Int32 → Int32 → HO (Int32)
  | 0, _, _, _, _, _, _, _, _, _, _, _ => none
  | n + 1, G, nx, l0, l2, l3, l5, l6, l7, l8, l9, l10 =>
  if l9 ≤ l8 then (hB_J12_indexOf_2_103 V k14 G nx l0 l2 l3 l5 l6 l7 l8 l9)
  else ((l0).bind fun a3 => (rdI G (V.2.1 1) a3 l8).bind fun v5 => (l2).bind fun a7 => (rdI G (V.2.1 1) a7 l10).bind fun v9 => if v5 = v9 then ((hL_J12_indexOf_2_76 V k14 n) G nx (some a3) (some a7) l3 l5 l6 l7 (l8 + 1) l9 (l10 + 1))
  else (hB_J12_indexOf_2_103 V k14 G nx (some a3) (some a7) l3 l5 l6 l7 l8 l9))

def hB_J12_indexOf_2_52 (V : HEn) (k14 : Gh → Nat → Option Nat → Option Nat → Int32 → Int32 → Int32 → Int32 → HO (Int32)) (G : Gh) (nx : Nat) (l0 : Option Nat) (l2 : Option Nat) (l3 : Int32) (l5 : Int32) (l6 : Int32) (l7 : Int32) : HO (Int32) :=
  if l6 < l7 then (hB_J12_indexOf_2_113 V k14 G nx l0 l2 l3 l5 l6 l7)
  else (hL_J12_indexOf_2_76 V k14 V.2.2.2.2 G nx l0 l2 l3 l5 l6 l7 (l7 + 1) (((l7 + 1) + l3) - 1) 1)

def hL_J12_indexOf_2_30 (V : HEn) (k14 : Gh → Nat → Option Nat → Option Nat → Int32 → Int32 → Int32 → Int32 → HO (Int32)) : Nat → Gh → Nat → Option Nat → Option Nat → Int32 → Int32 → Int32 → Int32 → HO (Int32)
  | 0, _, _, _, _, _, _, _, _ => none
  | n + 1, G, nx, l0, l2, l3, l5, l6, l7 =>
  if l6 < (l7 + 1) then (hB_J12_indexOf_2_52 V k14 G nx l0 l2 l3 l5 l6 (l7 + 1))
  else ((l0).bind fun a14 => (rdI G (V.2.1 1) a14 (l7 + 1)).bind fun v16 => if v16 = l5 then (hB_J12_indexOf_2_52 V k14 G nx (some a14) l2 l3 l5 l6 (l7 + 1))
  else ((hL_J12_indexOf_2_30 V k14 n) G nx (some a14) l2 l3 l5 l6 (l7 + 1)))

def hL_J12_indexOf_2_14 (V : HEn)  : Nat → Gh → Nat → Option Nat → Option Nat → Int32 → Int32 → Int32 → Int32 → HO (Int32)
  | 0, _, _, _, _, _, _, _, _ => none
  | n + 1, G, nx, l0, l2, l3, l5, l6, l7 =>
  if l6 < l7 then (some ((-1), G, 0, 0))
  else ((l0).bind fun a20 => (rdI G (V.2.1 1) a20 l7).bind fun v22 => if v22 = l5 then (hB_J12_indexOf_2_52 V (hL_J12_indexOf_2_14 V  n) G nx (some a20) l2 l3 l5 l6 l7)
  else (hL_J12_indexOf_2_30 V (hL_J12_indexOf_2_14 V  n) V.2.2.2.2 G nx (some a20) l2 l3 l5 l6 l7))

def hF_J12_indexOf_2 (V : HEn) (G : Gh) (nx : Nat) (a0 : Option Nat) (a1 : Int32) (a2 : Option Nat) (a3 : Int32) (a4 : Int32) : HO (Int32) :=
  (a2).bind fun a125 => (rdI G (V.2.1 1) a125 0).bind fun v127 => hL_J12_indexOf_2_14 V V.2.2.2.2 G nx a0 (some a125) a3 v127 (a1 - a3) a4

/-! J12_indexOf -/
def hF_J12_indexOf (V : HEn) (G : Gh) (nx : Nat) (a0 : Option Nat) (a1 : Option Nat) : HO (Int32) :=
  (a1).bind fun a101 => (aln G (V.2.1 1) a101).bind fun n103 => if n103 = 0 then (some (0, G, 0, 0))
  else ((a0).bind fun a106 => (aln G (V.2.1 1) a106).bind fun n108 => if n108 = 0 then (some ((-1), G, 0, 0))
  else ((aln G (V.2.1 1) a106).bind fun n111 => (aln G (V.2.1 1) a101).bind fun n113 => cB (hF_J12_indexOf_2 V G nx (some a106) n111 (some a101) n113 0) fun y115 G116 c117 => some (y115, G116, 0, 0)))

/-! J7_indexOf -/
def hF_J7_indexOf (V : HEn) (G : Gh) (nx : Nat) (o : Nat) (a0 : Option Nat) : HO (Int32) :=
  if gC G o 25 = true then cB (hF_J7_coder V G nx o) fun y102 G103 c104 => (a0).bind fun a109 => if gC G103 a109 25 = true then cB (hF_J7_coder V G103 (nx + c104) a109) fun y112 G113 c114 => if y102 = y112 then (if gC G113 o 25 = true then cB (hF_J7_isLatin1 V G113 ((nx + c104) + c114) o) fun y121 G122 c123 => if y121 = 0 then (none)
  else ((xR G122 o fl_String_value).bind fun r129 => (xR G122 a109 fl_String_value).bind fun r131 => cB (hF_J12_indexOf V G122 (((nx + c104) + c114) + c123) r129 r131) fun y133 G134 c135 => some (y133, G134, 0, 0)) else none)
  else (if y102 = 0 then (some ((-1), G113, 0, 0))
  else (none)) else none else none

/-! J7_contains -/
def hB_J7_contains_18 (V : HEn) (o : Nat)  (G : Gh) (nx : Nat) (s0 : Int32) : HO (Int32) :=
  if vp_nar .boolean s0 = s0 then some (s0, G, 0, 0) else none

def hF_J7_contains (V : HEn) (G : Gh) (nx : Nat) (o : Nat) (a0 : Option Nat) : HO (Int32) :=
  (a0).bind fun a102 => if gC G a102 25 = true then cB (hF_J7_toString V G nx a102) fun r105 G106 c107 => if gC G106 o 25 = true then cB (hF_J7_indexOf V G106 (nx + c107) o r105) fun y113 G114 c115 => if y113 < 0 then (hB_J7_contains_18 V o G114 ((nx + c107) + c115) 0)
  else (hB_J7_contains_18 V o G114 ((nx + c107) + c115) 1) else none else none

/-! X4_takes -/
def hF_X4_takes (V : HEn) (G : Gh) (nx : Nat) (o : Nat) (a0 : Int32) (a1 : Int32) : HO ((Int32) ⊕ Nat) :=
  (xI G o fl_RunWatch_Reader_number).bind fun v101 => cB (hF_X0_isIn V G nx v101 a0 a1) fun y103 G104 c105 => if gC G104 o 3 = true then xB (hF_X4_wants V G104 (nx + c105) o y103) fun y111 G112 c113 => (xI G112 o fl_RunWatch_Reader_number).bind fun v120 => if gC G112 o 3 = true then xB (hF_X4_next V G112 ((nx + c105) + c113) o) fun y123 G124 c125 => some (.inl v120, G124, 0, 0) else none else none

/-! X2_backs -/
def hL_X2_backs_12 (V : HEn) (o : Nat)  : Nat → Gh → Nat → Int32 → Option Nat → HO (Int32)
  | 0, _, _, _, _ => none
  | n + 1, G, nx, l1, l2 =>
  (l2).bind fun a1 => if gC G a1 9 = true then cB (hF_J16_hasNext V G nx a1) fun y4 G5 c6 => if y4 = 0 then (some (l1, G5, 0, 0))
  else (if gC G5 a1 9 = true then cB (hF_J16_next V G5 (nx + c6) a1) fun r13 G14 c15 => if gok G14 r13 [5] = true then (r13).bind fun a21 => (xI G14 a21 fl_RunWatch_Rule_n).bind fun v23 => (hL_X2_backs_12 V o n) G14 ((nx + c6) + c15) (l1 + (v23 - 1)) (some a1) else none else none) else none

def hF_X2_backs (V : HEn) (G : Gh) (nx : Nat) (o : Nat) : HO (Int32) :=
  (xR G o fl_RunWatch_Plan_rules).bind fun r125 => (r125).bind fun a127 => if gC G a127 8 = true then cB (hF_J2_iterator V G nx a127) fun r130 G131 c132 => hL_X2_backs_12 V o V.2.2.2.2 G131 (nx + c132) 0 r130 else none

/-! X4_rule -/
def hB_X4_rule_73 (V : HEn) (o : Nat)  (G : Gh) (nx : Nat) (s0 : Option Nat) (s1 : Int32) (l1 : Int32) : HO ((Unit) ⊕ Nat) :=
  (s0).bind fun a1 => if gC G a1 3 = true then xB (hF_X4_wants V G nx a1 s1) fun y4 G5 c6 => if gC G5 o 3 = true then xB (hF_X4_takes V G5 (nx + c6) o l1 4) fun y14 G15 c16 => (xR G15 o fl_RunWatch_Reader_plan).bind fun r23 => (r23).bind fun a25 => (xR G15 a25 fl_RunWatch_Plan_rules).bind fun r27 => tick 1 3 (if gC (gset G15 ((nx + c6) + c16) (.inr (5, [.int 0, .int 0, .int 0]))) o 3 = true then xB (hF_X4_takes V (gset G15 ((nx + c6) + c16) (.inr (5, [.int 0, .int 0, .int 0]))) (((nx + c6) + c16) + 1) o 1 31) fun y32 G33 c34 => cB (hF_X6_init V G33 ((((nx + c6) + c16) + 1) + c34) ((nx + c6) + c16) l1 y14 y32) fun y41 G42 c43 => (r27).bind fun a48 => if gC G42 a48 8 = true then cB (hF_J2_add V G42 (((((nx + c6) + c16) + 1) + c34) + c43) a48 (some ((nx + c6) + c16))) fun y51 G52 c53 => some (.inl (), G52, 0, 0) else none else none) else none else none

def hB_X4_rule_72 (V : HEn) (o : Nat)  (G : Gh) (nx : Nat) (s0 : Option Nat) (l1 : Int32) : HO ((Unit) ⊕ Nat) :=
  hB_X4_rule_73 V o G nx s0 0 l1

def hB_X4_rule_22 (V : HEn) (o : Nat)  (G : Gh) (nx : Nat) (s0 : Option Nat) (s1 : Int32) : HO ((Unit) ⊕ Nat) :=
  (s0).bind fun a58 => if gC G a58 3 = true then xB (hF_X4_wants V G nx a58 s1) fun y61 G62 c63 => if gC G62 o 3 = true then xB (hF_X4_next V G62 (nx + c63) o) fun y71 G72 c73 => if gC G72 o 3 = true then xB (hF_X4_takes V G72 ((nx + c63) + c73) o 1 4) fun y81 G82 c83 => (xI G82 o fl_RunWatch_Reader_number).bind fun v90 => cB (hF_X0_isIn V G82 (((nx + c63) + c73) + c83) v90 y81 4) fun y92 G93 c94 => if y92 = 0 then (hB_X4_rule_72 V o G93 ((((nx + c63) + c73) + c83) + c94) (some o) y81)
  else ((xR G93 o fl_RunWatch_Reader_plan).bind fun r100 => (r100).bind fun a102 => if gC G93 a102 2 = true then cB (hF_X2_backs V G93 ((((nx + c63) + c73) + c83) + c94) a102) fun y105 G106 c107 => (xI G106 o fl_RunWatch_Reader_number).bind fun v112 => if 6 < ((y105 + v112) - 1) then (hB_X4_rule_72 V o G106 (((((nx + c63) + c73) + c83) + c94) + c107) (some o) y81)
  else (hB_X4_rule_73 V o G106 (((((nx + c63) + c73) + c83) + c94) + c107) (some o) 1 y81) else none) else none else none else none

def hF_X4_rule (V : HEn) (G : Gh) (nx : Nat) (o : Nat) : HO ((Unit) ⊕ Nat) :=
  (xR G o fl_RunWatch_Reader_plan).bind fun r215 => (r215).bind fun a217 => (xR G a217 fl_RunWatch_Plan_rules).bind fun r219 => (r219).bind fun a221 => if gC G a221 8 = true then cB (hF_J2_size V G nx a221) fun y224 G225 c226 => if 3 ≤ y224 then (hB_X4_rule_22 V o G225 (nx + c226) (some o) 0)
  else (hB_X4_rule_22 V o G225 (nx + c226) (some o) 1) else none

/-! X4_chance -/
def hB_X4_chance_37 (V : HEn) (o : Nat) (k13 : Gh → Nat → Int32 → Option Nat → Int32 → HO ((Unit) ⊕ Nat)) (G : Gh) (nx : Nat) (s0 : Option Nat) (s1 : Int32) (l1 : Int32) (l2 : Option Nat) (l3 : Int32) : HO ((Unit) ⊕ Nat) :=
  (s0).bind fun a1 => if gC G a1 3 = true then xB (hF_X4_wants V G nx a1 s1) fun y4 G5 c6 => if gC G5 o 3 = true then xB (hF_X4_takes V G5 (nx + c6) o 0 10) fun y14 G15 c16 => (l2).bind fun a23 => (wrI V.1 G15 (V.2.1 0) a23 l3 y14).bind fun G25 => (rdI G25 (V.2.1 0) a23 l3).bind fun v27 => k13 G25 ((nx + c6) + c16) (l1 - v27) (some a23) (l3 + 1) else none else none

def hB_X4_chance_32 (V : HEn) (o : Nat) (k13 : Gh → Nat → Int32 → Option Nat → Int32 → HO ((Unit) ⊕ Nat)) (G : Gh) (nx : Nat) (s0 : Option Nat) (l1 : Int32) (l2 : Option Nat) (l3 : Int32) : HO ((Unit) ⊕ Nat) :=
  hB_X4_chance_37 V o k13 G nx s0 1 l1 l2 l3

def hL_X4_chance_13 (V : HEn) (o : Nat)  : Nat → Gh → Nat → Int32 → Option Nat → Int32 → HO ((Unit) ⊕ Nat)
  | 0, _, _, _, _, _ => none
  | n + 1, G, nx, l1, l2, l3 =>
  if 5 ≤ l3 then ((xR G o fl_RunWatch_Reader_plan).bind fun r30 => (r30).bind fun a32 => (xF V.1 G a32 fl_RunWatch_Plan_chances (va_rf l2)).bind fun G34 => some (.inl (), G34, 0, 0))
  else (if l3 < 4 then (hB_X4_chance_32 V o (hL_X4_chance_13 V o n) G nx (some o) l1 l2 l3)
  else ((xI G o fl_RunWatch_Reader_number).bind fun v37 => if v37 = l1 then (hB_X4_chance_32 V o (hL_X4_chance_13 V o n) G nx (some o) l1 l2 l3)
  else (hB_X4_chance_37 V o (hL_X4_chance_13 V o n) G nx (some o) 0 l1 l2 l3)))

def hF_X4_chance (V : HEn) (G : Gh) (nx : Nat) (o : Nat) : HO ((Unit) ⊕ Nat) :=
  (gn 5).bind fun n140 => tick 1 n140 (if gC (gset G nx (.inl (V.2.1 0, n140, .inl (fun _ => 0)))) o 3 = true then xB (hF_X4_next V (gset G nx (.inl (V.2.1 0, n140, .inl (fun _ => 0)))) (nx + 1) o) fun y145 G146 c147 => hL_X4_chance_13 V o V.2.2.2.2 G146 ((nx + 1) + c147) 10 (some nx) 0 else none)

/-! J5_appendNull -/
def hF_J5_appendNull (V : HEn) (G : Gh) (nx : Nat) (o : Nat) : HO (Option Nat) :=
  (xI G o fl_AbstractStringBuilder_count).bind fun v101 => if gC G o 24 = true then cB (hF_J5_ensureCapacityInternal V G nx o (v101 + 4)) fun y104 G105 c106 => (xI G105 o fl_AbstractStringBuilder_count).bind fun v111 => (xR G105 o fl_AbstractStringBuilder_value).bind fun r113 => if gC G105 o 24 = true then cB (hF_J5_isLatin1 V G105 (nx + c106) o) fun y116 G117 c118 => if y116 = 0 then (none)
  else ((r113).bind fun a124 => (wrI V.1 G117 (V.2.1 1) a124 v111 (vp_nar .byte 110)).bind fun G126 => (wrI V.1 G126 (V.2.1 1) a124 (v111 + 1) (vp_nar .byte 117)).bind fun G128 => (wrI V.1 G128 (V.2.1 1) a124 ((v111 + 1) + 1) (vp_nar .byte 108)).bind fun G130 => (wrI V.1 G130 (V.2.1 1) a124 (((v111 + 1) + 1) + 1) (vp_nar .byte 108)).bind fun G132 => (xF V.1 G132 o fl_AbstractStringBuilder_count (.int ((((v111 + 1) + 1) + 1) + 1))).bind fun G134 => some ((some o), G134, 0, 0)) else none else none

/-! J5_inflate -/
def hF_J5_inflate (V : HEn) (G : Gh) (nx : Nat) (o : Nat) : HO (Unit) :=
  if gC G o 24 = true then cB (hF_J5_isLatin1 V G nx o) fun y102 G103 c104 => if y102 = 0 then (some ((), G103, 0, 0))
  else (none) else none

/-! J5_inflateIfNeededFor -/
def hB_J5_inflateIfNeededFor_21 (V : HEn) (o : Nat)  (G : Gh) (nx : Nat)  : HO (Unit) :=
  some ((), G, 0, 0)

def hF_J5_inflateIfNeededFor (V : HEn) (G : Gh) (nx : Nat) (o : Nat) (a0 : Option Nat) : HO (Unit) :=
  if (1 : Int32) = 0 then (hB_J5_inflateIfNeededFor_21 V o G nx)
  else ((xI G o fl_AbstractStringBuilder_coder).bind fun v102 => (a0).bind fun a104 => if gC G a104 25 = true then cB (hF_J7_coder V G nx a104) fun y107 G108 c109 => if v102 = y107 then (hB_J5_inflateIfNeededFor_21 V o G108 (nx + c109))
  else (if gC G108 o 24 = true then cB (hF_J5_inflate V G108 (nx + c109) o) fun y116 G117 c118 => hB_J5_inflateIfNeededFor_21 V o G117 ((nx + c109) + c118) else none) else none)

/-! J12_inflate -/
def hF_J12_inflate (V : HEn) (G : Gh) (nx : Nat) (a0 : Option Nat) (a1 : Int32) (a2 : Option Nat) (a3 : Int32) (a4 : Int32) : HO (Unit) :=
  none

/-! J7_getBytes -/
def hB_J7_getBytes_43 (V : HEn) (o : Nat)  (G : Gh) (nx : Nat)  : HO (Unit) :=
  some ((), G, 0, 0)

def hF_J7_getBytes (V : HEn) (G : Gh) (nx : Nat) (o : Nat) (a0 : Option Nat) (a1 : Int32) (a2 : Int32) : HO (Unit) :=
  if gC G o 25 = true then cB (hF_J7_coder V G nx o) fun y102 G103 c104 => if y102 = a2 then ((xR G103 o fl_String_value).bind fun r110 => (xR G103 o fl_String_value).bind fun r112 => (r112).bind fun a114 => (aln G103 (V.2.1 1) a114).bind fun n116 => (r110).bind fun a118 => (a0).bind fun a120 => (cpI V.1 G103 (V.2.1 1) a118 0 a120 (a1 <<< (a2 &&& 31)) n116).bind fun G122 => hB_J7_getBytes_43 V o G122 (nx + c104))
  else ((xR G103 o fl_String_value).bind fun r124 => (xR G103 o fl_String_value).bind fun r126 => (r126).bind fun a128 => (aln G103 (V.2.1 1) a128).bind fun n130 => cB (hF_J12_inflate V G103 (nx + c104) r124 0 a0 a1 n130) fun y132 G133 c134 => hB_J7_getBytes_43 V o G133 ((nx + c104) + c134)) else none

/-! J5_putStringAt -/
def hF_J5_putStringAt (V : HEn) (G : Gh) (nx : Nat) (o : Nat) (a0 : Int32) (a1 : Option Nat) : HO (Unit) :=
  if gC G o 24 = true then cB (hF_J5_inflateIfNeededFor V G nx o a1) fun y102 G103 c104 => (xR G103 o fl_AbstractStringBuilder_value).bind fun r109 => (xI G103 o fl_AbstractStringBuilder_coder).bind fun v111 => (a1).bind fun a113 => if gC G103 a113 25 = true then cB (hF_J7_getBytes V G103 (nx + c104) a113 r109 a0 v111) fun y116 G117 c118 => some ((), G117, 0, 0) else none else none

/-! J5_append_2 -/
def hF_J5_append_2 (V : HEn) (G : Gh) (nx : Nat) (o : Nat) (a0 : Option Nat) : HO (Option Nat) :=
  if a0 = none then (if gC G o 24 = true then cB (hF_J5_appendNull V G nx o) fun r103 G104 c105 => some (r103, G104, 0, 0) else none)
  else ((a0).bind fun a110 => if gC G a110 25 = true then cB (hF_J7_length V G nx a110) fun y113 G114 c115 => (xI G114 o fl_AbstractStringBuilder_count).bind fun v120 => if gC G114 o 24 = true then cB (hF_J5_ensureCapacityInternal V G114 (nx + c115) o (v120 + y113)) fun y123 G124 c125 => (xI G124 o fl_AbstractStringBuilder_count).bind fun v130 => if gC G124 o 24 = true then cB (hF_J5_putStringAt V G124 ((nx + c115) + c125) o v130 (some a110)) fun y133 G134 c135 => (xI G134 o fl_AbstractStringBuilder_count).bind fun v140 => (xF V.1 G134 o fl_AbstractStringBuilder_count (.int (v140 + y113))).bind fun G142 => some ((some o), G142, 0, 0) else none else none else none)

/-! J6_append_2 -/
def hF_J6_append_2 (V : HEn) (G : Gh) (nx : Nat) (o : Nat) (a0 : Option Nat) : HO (Option Nat) :=
  if gC G o 24 = true then cB (hF_J5_append_2 V G nx o a0) fun r102 G103 c104 => some ((some o), G103, 0, 0) else none

/-! X4_item -/
def hB_X4_item_235 (V : HEn) (o : Nat)  (G : Gh) (nx : Nat)  : HO ((Unit) ⊕ Nat) :=
  some (.inl (), G, 0, 0)

def hB_X4_item_221 (V : HEn) (o : Nat)  (G : Gh) (nx : Nat) (s0 : Option Nat) (s1 : Option Nat) : HO ((Unit) ⊕ Nat) :=
  (s1).bind fun a1 => if gC G a1 24 = true then cB (hF_J6_toString V G nx a1) fun r4 G5 c6 => (s0).bind fun a11 => (xF V.1 G5 a11 fl_RunWatch_Reader_once (va_rf r4)).bind fun G13 => hB_X4_item_235 V o G13 (nx + c6) else none

def hB_X4_item_103 (V : HEn) (o : Nat)  (G : Gh) (nx : Nat) (l1 : Option Nat) (l3 : Int32) : HO ((Unit) ⊕ Nat) :=
  if l3 = 0 then (if gC G o 3 = true then xB (hF_X4_rule V G nx o) fun y17 G18 c19 => hB_X4_item_235 V o G18 (nx + c19) else none)
  else (if l3 = 1 then (if gC G o 3 = true then xB (hF_X4_chance V G nx o) fun y28 G29 c30 => tick 1 4 (cB (hF_J6_init V (gset G29 (nx + c30) (.inr (24, [.null, .int 0, .int 0, .int 0]))) ((nx + c30) + 1) (nx + c30)) fun y39 G40 c41 => (xR G40 o fl_RunWatch_Reader_once).bind fun r46 => if gC G40 (nx + c30) 24 = true then cB (hF_J6_append_2 V G40 (((nx + c30) + 1) + c41) (nx + c30) r46) fun r49 G50 c51 => (r49).bind fun a56 => if gC G50 a56 24 = true then cB (hF_J6_append_2 V G50 ((((nx + c30) + 1) + c41) + c51) a56 l1) fun r59 G60 c61 => (r59).bind fun a66 => if gC G60 a66 24 = true then cB (hF_J6_toString V G60 (((((nx + c30) + 1) + c41) + c51) + c61) a66) fun r69 G70 c71 => (xF V.1 G70 o fl_RunWatch_Reader_once (va_rf r69)).bind fun G76 => hB_X4_item_235 V o G76 ((((((nx + c30) + 1) + c41) + c51) + c61) + c71) else none else none else none) else none)
  else (if l3 = 2 then (if gC G o 3 = true then xB (hF_X4_next V G nx o) fun y80 G81 c82 => (xR G81 o fl_RunWatch_Reader_plan).bind fun r89 => if gC G81 o 3 = true then xB (hF_X4_takes V G81 (nx + c82) o 0 2) fun y92 G93 c94 => (r89).bind fun a101 => (xF V.1 G93 a101 fl_RunWatch_Plan_slack (.int y92)).bind fun G103 => (xR G103 o fl_RunWatch_Reader_plan).bind fun r105 => if gC G103 o 3 = true then xB (hF_X4_takes V G103 ((nx + c82) + c94) o 1 9) fun y108 G109 c110 => (r105).bind fun a117 => (xF V.1 G109 a117 fl_RunWatch_Plan_limit (.int y108)).bind fun G119 => tick 1 4 (cB (hF_J6_init V (gset G119 (((nx + c82) + c94) + c110) (.inr (24, [.null, .int 0, .int 0, .int 0]))) ((((nx + c82) + c94) + c110) + 1) (((nx + c82) + c94) + c110)) fun y123 G124 c125 => (xR G124 o fl_RunWatch_Reader_once).bind fun r130 => if gC G124 (((nx + c82) + c94) + c110) 24 = true then cB (hF_J6_append_2 V G124 (((((nx + c82) + c94) + c110) + 1) + c125) (((nx + c82) + c94) + c110) r130) fun r133 G134 c135 => (r133).bind fun a140 => if gC G134 a140 24 = true then cB (hF_J6_append_2 V G134 ((((((nx + c82) + c94) + c110) + 1) + c125) + c135) a140 l1) fun r143 G144 c145 => hB_X4_item_221 V o G144 (((((((nx + c82) + c94) + c110) + 1) + c125) + c135) + c145) (some o) r143 else none else none) else none else none else none)
  else (if gC G o 3 = true then xB (hF_X4_wants V G nx o 0) fun y151 G152 c153 => hB_X4_item_235 V o G152 (nx + c153) else none)))

def hB_X4_item_17 (V : HEn) (o : Nat)  (G : Gh) (nx : Nat) (s0 : Option Nat) (s1 : Int32) (l1 : Option Nat) : HO ((Unit) ⊕ Nat) :=
  (s0).bind fun a160 => if gC G a160 3 = true then xB (hF_X4_wants V G nx a160 s1) fun y163 G164 c165 => (l1).bind fun a172 => if gC G164 a172 25 = true then cB (hF_J7_hashCode V G164 (nx + c165) a172) fun y175 G176 c177 => if y175 = (-1361636556) then (if gC G176 a172 25 = true then cB (hF_J7_equals V G176 ((nx + c165) + c177) a172 (some (V.2.2.2.1 4))) fun y184 G185 c186 => if y184 = 0 then (hB_X4_item_103 V o G185 (((nx + c165) + c177) + c186) (some a172) (-1))
  else (hB_X4_item_103 V o G185 (((nx + c165) + c177) + c186) (some a172) 1) else none)
  else (if y175 = 3512060 then (if gC G176 a172 25 = true then cB (hF_J7_equals V G176 ((nx + c165) + c177) a172 (some (V.2.2.2.1 3))) fun y194 G195 c196 => if y194 = 0 then (hB_X4_item_103 V o G195 (((nx + c165) + c177) + c196) (some a172) (-1))
  else (hB_X4_item_103 V o G195 (((nx + c165) + c177) + c196) (some a172) 0) else none)
  else (if y175 = 3541896 then (if gC G176 a172 25 = true then cB (hF_J7_equals V G176 ((nx + c165) + c177) a172 (some (V.2.2.2.1 5))) fun y204 G205 c206 => if y204 = 0 then (hB_X4_item_103 V o G205 (((nx + c165) + c177) + c206) (some a172) (-1))
  else (hB_X4_item_103 V o G205 (((nx + c165) + c177) + c206) (some a172) 2) else none)
  else (hB_X4_item_103 V o G176 ((nx + c165) + c177) (some a172) (-1)))) else none else none

def hF_X4_item (V : HEn) (G : Gh) (nx : Nat) (o : Nat) (a0 : Option Nat) : HO ((Unit) ⊕ Nat) :=
  (xR G o fl_RunWatch_Reader_once).bind fun r312 => (r312).bind fun a314 => if gC G a314 25 = true then cB (hF_J7_contains V G nx a314 a0) fun y317 G318 c319 => if y317 = 0 then (hB_X4_item_17 V o G318 (nx + c319) (some o) 1 a0)
  else (hB_X4_item_17 V o G318 (nx + c319) (some o) 0 a0) else none

/-! X4_all -/
def hL_X4_all_4 (V : HEn) (o : Nat)  : Nat → Gh → Nat → HO ((Int32) ⊕ Nat)
  | 0, _, _ => none
  | n + 1, G, nx =>
  (xR G o fl_RunWatch_Reader_word).bind fun r1 => (r1).bind fun a3 => if gC G a3 25 = true then cB (hF_J7_isEmpty V G nx a3) fun y6 G7 c8 => if y6 = 0 then ((xR G7 o fl_RunWatch_Reader_word).bind fun r14 => if gC G7 o 3 = true then xB (hF_X4_item V G7 (nx + c8) o r14) fun y17 G18 c19 => (xR G18 o fl_RunWatch_Reader_word).bind fun r26 => (r26).bind fun a28 => if gC G18 a28 25 = true then cB (hF_J7_equals V G18 ((nx + c8) + c19) a28 (some (V.2.2.2.1 2))) fun y31 G32 c33 => if gC G32 o 3 = true then xB (hF_X4_wants V G32 (((nx + c8) + c19) + c33) o y31) fun y39 G40 c41 => (xI G40 o fl_RunWatch_Reader_items).bind fun v48 => (xF V.1 G40 o fl_RunWatch_Reader_items (.int (v48 + 1))).bind fun G50 => if gC G50 o 3 = true then xB (hF_X4_next V G50 ((((nx + c8) + c19) + c33) + c41) o) fun y53 G54 c55 => (hL_X4_all_4 V o n) G54 (((((nx + c8) + c19) + c33) + c41) + c55) else none else none else none else none)
  else ((xI G7 o fl_RunWatch_Reader_items).bind fun v62 => some (.inl v62, G7, 0, 0)) else none

def hF_X4_all (V : HEn) (G : Gh) (nx : Nat) (o : Nat) : HO ((Int32) ⊕ Nat) :=
  if gC G o 3 = true then xB (hF_X4_next V G nx o) fun y165 G166 c167 => hL_X4_all_4 V o V.2.2.2.2 G166 (nx + c167) else none

/-! X0_tells -/
def hB_X0_tells_65 (V : HEn) (o : Nat)  (G : Gh) (nx : Nat) (l2 : Int32) : HO (Int32) :=
  some (l2, G, 0, 0)

def hF_X0_tells (V : HEn) (G : Gh) (nx : Nat) (o : Nat) : HO (Int32) :=
  tick 1 8 ((xR (gset G nx (.inr (3, [.null, .null, .int 0, .int 0, .null, .int 0, .int 0, .null]))) o fl_RunWatch_text).bind fun r103 => (r103).bind fun a105 => if gC (gset G nx (.inr (3, [.null, .null, .int 0, .int 0, .null, .int 0, .int 0, .null]))) a105 24 = true then cB (hF_J6_toString V (gset G nx (.inr (3, [.null, .null, .int 0, .int 0, .null, .int 0, .int 0, .null]))) (nx + 1) a105) fun r108 G109 c110 => cB (hF_X4_init V G109 ((nx + 1) + c110) nx r108) fun y115 G116 c117 => if gC G116 nx 3 = true then yB (hF_X4_all V G116 (((nx + 1) + c110) + c117) nx) (fun y123 G124 c125 => if gC G124 o 0 = true then cB (hF_X0_notes V G124 ((((nx + 1) + c110) + c117) + c125) o) fun y140 G141 c142 => (xR G141 o fl_RunWatch_now).bind fun r147 => (r147).bind fun a149 => if gC G141 a149 1 = true then cB (hF_X1_copy V G141 (((((nx + 1) + c110) + c117) + c125) + c142) a149) fun r152 G153 c154 => (xR G153 nx fl_RunWatch_Reader_plan).bind fun r159 => (r152).bind fun a161 => (xF V.1 G153 a161 fl_RunWatch_Desk_plan (va_rf r159)).bind fun G163 => if gC G163 o 0 = true then cB (hF_X0_becomes V G163 ((((((nx + 1) + c110) + c117) + c125) + c142) + c154) o (some a161)) fun y166 G167 c168 => (xR G167 o fl_RunWatch_text).bind fun r173 => (r173).bind fun a175 => if gC G167 a175 24 = true then cB (hF_J6_setLength V G167 (((((((nx + 1) + c110) + c117) + c125) + c142) + c154) + c168) a175 0) fun y178 G179 c180 => hB_X0_tells_65 V o G179 ((((((((nx + 1) + c110) + c117) + c125) + c142) + c154) + c168) + c180) y123 else none else none else none else none)
  (fun q130 G131 c132 => (xI G131 q130 fl_RunWatch_Fault_at).bind fun v137 => some (((-10) - v137), G131, 0, 0)) else none else none)

/-! X0_type -/
def hF_X0_type (V : HEn) (G : Gh) (nx : Nat) (o : Nat) (a0 : Int32) : HO (Int32) :=
  cB (hF_X0_isIn V G nx a0 0 255) fun y101 G102 c103 => if y101 = 0 then (some ((-1), G102, 0, 0))
  else ((xR G102 o fl_RunWatch_text).bind fun r109 => (r109).bind fun a111 => if gC G102 a111 24 = true then cB (hF_J6_length V G102 (nx + c103) a111) fun y114 G115 c116 => if y114 = 120 then (some ((-3), G115, 0, 0))
  else ((xR G115 o fl_RunWatch_text).bind fun r122 => (r122).bind fun a124 => if gC G115 a124 24 = true then cB (hF_J6_append V G115 ((nx + c103) + c116) a124 ((a0.toUInt32 % 65536).toInt32)) fun r127 G128 c129 => (xR G128 o fl_RunWatch_text).bind fun r134 => (r134).bind fun a136 => if gC G128 a136 24 = true then cB (hF_J6_length V G128 (((nx + c103) + c116) + c129) a136) fun y139 G140 c141 => some (y139, G140, 0, 0) else none else none) else none)

/-! X0_undo -/
def hF_X0_undo (V : HEn) (G : Gh) (nx : Nat) (o : Nat) : HO (Int32) :=
  (xI G o fl_RunWatch_doneMany).bind fun v101 => if v101 = 0 then (some ((-2), G, 0, 0))
  else ((xI G o fl_RunWatch_doneMany).bind fun v104 => (xF V.1 G o fl_RunWatch_doneMany (.int (v104 - 1))).bind fun G106 => (xR G106 o fl_RunWatch_done).bind fun r108 => (xI G106 o fl_RunWatch_doneMany).bind fun v110 => (r108).bind fun a112 => (rdR G106 (V.2.1 5) a112 v110).bind fun r114 => if gC G106 o 0 = true then cB (hF_X0_becomes V G106 nx o r114) fun y117 G118 c119 => (xI G118 o fl_RunWatch_doneMany).bind fun v124 => some (v124, G118, 0, 0) else none)
