/-! what is known of the start; the methods by their numbers (printed by gen/emit61.py) -/
set_option maxRecDepth 100000
def TE3 : u_T := fun k => match k with
  | 0 => ("java/lang/String", "value", "[B", true)
  | _ => ("java/lang/String", "code\x72", "B", true)
def tyE3 : Nat → FieldType := fun k => match k with
  | 0 => .array (.byte)
  | _ => .byte
theorem tyE3_ok : ∀ k, k < 2 → parseFieldDescriptor (TE3 k).2.2.1 = some (tyE3 k) := by decide +kernel
theorem in_E3 : ∀ w ∈ u_ws RJ17 TE3 2, w ∈ lw_all := lw_in (u_ws RJ17 TE3 2) [797, 799] (by decide +kernel) (by decide +kernel)
def TE28 : u_T := fun k => match k with
  | 0 => ("KernelGym$Wrong", "erro\x72", "I", true)
  | 1 => ("KernelGym$Wrong", "line", "I", true)
  | _ => ("java/lang/Throwable", "backtrace", "Ljava/lang/Object;", false)
def tyE28 : Nat → FieldType := fun k => match k with
  | 0 => .int
  | 1 => .int
  | _ => .object "java/lang/Object"
theorem tyE28_ok : ∀ k, k < 3 → parseFieldDescriptor (TE28 k).2.2.1 = some (tyE28 k) := by decide +kernel
theorem in_E28 : ∀ w ∈ u_ws RX19 TE28 3, w ∈ lw_all := lw_in (u_ws RX19 TE28 3) [809, 811, 492] (by decide +kernel) (by decide +kernel)
def TE32 : u_T := fun k => match k with
  | _ => ("java/lang/Throwable", "backtrace", "Ljava/lang/Object;", false)
def tyE32 : Nat → FieldType := fun k => match k with
  | _ => .object "java/lang/Object"
theorem tyE32_ok : ∀ k, k < 1 → parseFieldDescriptor (TE32 k).2.2.1 = some (tyE32 k) := by decide +kernel
theorem in_E32 : ∀ w ∈ u_ws RX22 TE32 1, w ∈ lw_all := lw_in (u_ws RX22 TE32 1) [2127] (by decide +kernel) (by decide +kernel)
def TE33 : u_T := fun k => match k with
  | _ => ("java/lang/Throwable", "backtrace", "Ljava/lang/Object;", false)
def tyE33 : Nat → FieldType := fun k => match k with
  | _ => .object "java/lang/Object"
theorem tyE33_ok : ∀ k, k < 1 → parseFieldDescriptor (TE33 k).2.2.1 = some (tyE33 k) := by decide +kernel
theorem in_E33 : ∀ w ∈ u_ws RX23 TE33 1, w ∈ lw_all := lw_in (u_ws RX23 TE33 1) [2158] (by decide +kernel) (by decide +kernel)
def TE34 : u_T := fun k => match k with
  | _ => ("java/lang/Throwable", "backtrace", "Ljava/lang/Object;", false)
def tyE34 : Nat → FieldType := fun k => match k with
  | _ => .object "java/lang/Object"
theorem tyE34_ok : ∀ k, k < 1 → parseFieldDescriptor (TE34 k).2.2.1 = some (tyE34 k) := by decide +kernel
theorem in_E34 : ∀ w ∈ u_ws RX24 TE34 1, w ∈ lw_all := lw_in (u_ws RX24 TE34 1) [2178] (by decide +kernel) (by decide +kernel)
def TE35 : u_T := fun k => match k with
  | _ => ("java/lang/Throwable", "backtrace", "Ljava/lang/Object;", false)
def tyE35 : Nat → FieldType := fun k => match k with
  | _ => .object "java/lang/Object"
theorem tyE35_ok : ∀ k, k < 1 → parseFieldDescriptor (TE35 k).2.2.1 = some (tyE35 k) := by decide +kernel
theorem in_E35 : ∀ w ∈ u_ws RX25 TE35 1, w ∈ lw_all := lw_in (u_ws RX25 TE35 1) [2231] (by decide +kernel) (by decide +kernel)
def TE44 : u_T := fun k => match k with
  | _ => ("java/lang/Throwable", "backtrace", "Ljava/lang/Object;", false)
def tyE44 : Nat → FieldType := fun k => match k with
  | _ => .object "java/lang/Object"
theorem tyE44_ok : ∀ k, k < 1 → parseFieldDescriptor (TE44 k).2.2.1 = some (tyE44 k) := by decide +kernel
theorem in_E44 : ∀ w ∈ u_ws RJ10 TE44 1, w ∈ lw_all := lw_in (u_ws RJ10 TE44 1) [1725] (by decide +kernel) (by decide +kernel)
def TE45 : u_T := fun k => match k with
  | _ => ("java/lang/Throwable", "backtrace", "Ljava/lang/Object;", false)
def tyE45 : Nat → FieldType := fun k => match k with
  | _ => .object "java/lang/Object"
theorem tyE45_ok : ∀ k, k < 1 → parseFieldDescriptor (TE45 k).2.2.1 = some (tyE45 k) := by decide +kernel
theorem in_E45 : ∀ w ∈ u_ws RJ25 TE45 1, w ∈ lw_all := lw_in (u_ws RJ25 TE45 1) [1558] (by decide +kernel) (by decide +kernel)
def TE46 : u_T := fun k => match k with
  | _ => ("java/lang/Throwable", "backtrace", "Ljava/lang/Object;", false)
def tyE46 : Nat → FieldType := fun k => match k with
  | _ => .object "java/lang/Object"
theorem tyE46_ok : ∀ k, k < 1 → parseFieldDescriptor (TE46 k).2.2.1 = some (tyE46 k) := by decide +kernel
theorem in_E46 : ∀ w ∈ u_ws RJ24 TE46 1, w ∈ lw_all := lw_in (u_ws RJ24 TE46 1) [855] (by decide +kernel) (by decide +kernel)
def ax_cl : List vw_C := [(RJ10, TJ10, 0), (RJ14, TJ14, 3), (RJ16, TJ16, 4), (RJ17, TE3, 2), (RJ2, TJ2, 3), (RJ22, TJ22, 1), (RJ24, TJ24, 0), (RJ25, TJ25, 0), (RJ26, TJ26, 5), (RJ27, TJ27, 6), (RJ29, TJ29, 5), (RJ30, TJ30, 6), (RJ31, TJ31, 3), (RJ32, TJ32, 4), (RJ35, TJ35, 5), (RJ4, TJ4, 4), (RJ5, TJ5, 3), (RJ6, TJ6, 5), (RJ9, TJ9, 0), (RX1, TX1, 6), (RX10, TX10, 2), (RX11, TX11, 3), (RX12, TX12, 2), (RX13, TX13, 1), (RX14, TX14, 4), (RX15, TX15, 7), (RX16, TX16, 4), (RX18, TX18, 10), (RX19, TE28, 3), (RX2, TX2, 10), (RX20, TX20, 9), (RX21, TX21, 2), (RX22, TE32, 1), (RX23, TE33, 1), (RX24, TE34, 1), (RX25, TE35, 1), (RX26, TX26, 2), (RX27, TX27, 8), (RX3, TX3, 74), (RX5, TX5, 2), (RX6, TX6, 2), (RX7, TX7, 2), (RX8, TX8, 5), (RX9, TX9, 2), (RJ10, TE44, 1), (RJ25, TE45, 1), (RJ24, TE46, 1)]
def ax_sts : List (String × String × String × Value) := [("java/lang/String", "COMPACT_STRINGS", "Z", .int 1), ("java/lang/Integer$IntegerCache", "high", "I", .int 127), ("java/util/BitSet", "$assertionsDisabled", "Z", .int 1), ("java/util/ArrayList", "DEFAULTCAPACITY_EMPTY_ELEMENTDATA", "[Ljava/lang/Object;", .ref 1), ("java/lang/Integer$IntegerCache", "cache", "[Ljava/lang/Integer;", .ref 3), ("java/lang/Intege\x72", "DigitTens", "[B", .ref 4), ("java/lang/Intege\x72", "DigitOnes", "[B", .ref 5)]
def ax_txs : List (String × Nat × String × Nat) := [("java/util/ArrayDeque", 35, "Sorry, deque too big", 360), ("KernelGym", 45, "out of range", 361), ("KernelGym", 52, "not now", 362), ("KernelGym", 142, "the source has an erro\x72", 292), ("KernelGym", 203, "not so many words", 364), ("KernelGym", 221, "no such file", 390), ("KernelGym", 227, "no such word", 366), ("KernelGym", 287, "no such test", 391), ("KernelGym$Wrong", 7, "error ", 280), ("KernelGym$Wrong", 16, " at the line ", 282), ("KernelGym$NoStack", 7, "the stack pointer is ", 288), ("KernelGym$NoAddress", 7, "no address ", 284), ("KernelGym$NoOperation", 7, "no operation ", 286), ("KernelGym$NoTape", 1, "the tape is full", 290)]
def ax_ncl : List (String × String) := [("KernelGym$NoAddress", "KernelGym$NoOperation"), ("KernelGym$NoAddress", "KernelGym$NoStack"), ("KernelGym$NoAddress", "KernelGym$NoTape"), ("KernelGym$NoAddress", "KernelGym$Wrong"), ("KernelGym$NoAddress", "java/lang/IllegalArgumentException"), ("KernelGym$NoAddress", "java/lang/IllegalStateException"), ("KernelGym$NoAddress", "java/lang/IndexOutOfBoundsException"), ("KernelGym$NoAddress", "java/util/NoSuchElementException"), ("KernelGym$NoOperation", "KernelGym$NoAddress"), ("KernelGym$NoOperation", "KernelGym$NoStack"), ("KernelGym$NoOperation", "KernelGym$NoTape"), ("KernelGym$NoOperation", "KernelGym$Wrong"), ("KernelGym$NoOperation", "java/lang/IllegalArgumentException"), ("KernelGym$NoOperation", "java/lang/IllegalStateException"), ("KernelGym$NoOperation", "java/lang/IndexOutOfBoundsException"), ("KernelGym$NoOperation", "java/util/NoSuchElementException"), ("KernelGym$NoStack", "KernelGym$NoAddress"), ("KernelGym$NoStack", "KernelGym$NoOperation"), ("KernelGym$NoStack", "KernelGym$NoTape"), ("KernelGym$NoStack", "KernelGym$Wrong"), ("KernelGym$NoStack", "java/lang/IllegalArgumentException"), ("KernelGym$NoStack", "java/lang/IllegalStateException"), ("KernelGym$NoStack", "java/lang/IndexOutOfBoundsException"), ("KernelGym$NoStack", "java/util/NoSuchElementException"), ("KernelGym$NoTape", "KernelGym$NoAddress"), ("KernelGym$NoTape", "KernelGym$NoOperation"), ("KernelGym$NoTape", "KernelGym$NoStack"), ("KernelGym$NoTape", "KernelGym$Wrong"), ("KernelGym$NoTape", "java/lang/IllegalArgumentException"), ("KernelGym$NoTape", "java/lang/IllegalStateException"), ("KernelGym$NoTape", "java/lang/IndexOutOfBoundsException"), ("KernelGym$NoTape", "java/util/NoSuchElementException"), ("KernelGym$Wrong", "KernelGym$NoAddress"), ("KernelGym$Wrong", "KernelGym$NoOperation"), ("KernelGym$Wrong", "KernelGym$NoStack"), ("KernelGym$Wrong", "KernelGym$NoTape"), ("KernelGym$Wrong", "java/lang/IllegalArgumentException"), ("KernelGym$Wrong", "java/lang/IllegalStateException"), ("KernelGym$Wrong", "java/lang/IndexOutOfBoundsException"), ("KernelGym$Wrong", "java/util/NoSuchElementException"), ("java/lang/IllegalArgumentException", "KernelGym$NoAddress"), ("java/lang/IllegalArgumentException", "KernelGym$NoOperation"), ("java/lang/IllegalArgumentException", "KernelGym$NoStack"), ("java/lang/IllegalArgumentException", "KernelGym$NoTape"), ("java/lang/IllegalArgumentException", "KernelGym$Wrong"), ("java/lang/IllegalArgumentException", "java/lang/IllegalStateException"), ("java/lang/IllegalArgumentException", "java/lang/IndexOutOfBoundsException"), ("java/lang/IllegalArgumentException", "java/util/NoSuchElementException"), ("java/lang/IllegalStateException", "KernelGym$NoAddress"), ("java/lang/IllegalStateException", "KernelGym$NoOperation"), ("java/lang/IllegalStateException", "KernelGym$NoStack"), ("java/lang/IllegalStateException", "KernelGym$NoTape"), ("java/lang/IllegalStateException", "KernelGym$Wrong"), ("java/lang/IllegalStateException", "java/lang/IllegalArgumentException"), ("java/lang/IllegalStateException", "java/lang/IndexOutOfBoundsException"), ("java/lang/IllegalStateException", "java/util/NoSuchElementException"), ("java/lang/IndexOutOfBoundsException", "KernelGym$NoAddress"), ("java/lang/IndexOutOfBoundsException", "KernelGym$NoOperation"), ("java/lang/IndexOutOfBoundsException", "KernelGym$NoStack"), ("java/lang/IndexOutOfBoundsException", "KernelGym$NoTape"), ("java/lang/IndexOutOfBoundsException", "KernelGym$Wrong"), ("java/lang/IndexOutOfBoundsException", "java/lang/IllegalArgumentException"), ("java/lang/IndexOutOfBoundsException", "java/lang/IllegalStateException"), ("java/lang/IndexOutOfBoundsException", "java/util/NoSuchElementException"), ("java/util/NoSuchElementException", "KernelGym$NoAddress"), ("java/util/NoSuchElementException", "KernelGym$NoOperation"), ("java/util/NoSuchElementException", "KernelGym$NoStack"), ("java/util/NoSuchElementException", "KernelGym$NoTape"), ("java/util/NoSuchElementException", "KernelGym$Wrong"), ("java/util/NoSuchElementException", "java/lang/IllegalArgumentException"), ("java/util/NoSuchElementException", "java/lang/IllegalStateException"), ("java/util/NoSuchElementException", "java/lang/IndexOutOfBoundsException")]
def ax_EN (G : ax_G) (l : Launch) : Prop := ax_FA G ∧ ax_AP G ∧ ax_TB G ∧ ax_US G ∧ l.stackTraces = false ∧ G.2.2.1 = ax_cl ∧ (∀ q ∈ ax_sts, ax_st G q.1 q.2.1 q.2.2.1 q.2.2.2) ∧ (∀ q ∈ ax_txs, vk_R q.1 q.2.1 q.2.2.1 (ax_ad G q.2.2.2) G.1) ∧ va_Mi "[Ljava/lang/Object;" (ax_ad G 6) G.1 ∧ ∀ q ∈ ax_ncl, va_Nc q.1 q.2 G.1
section EN
variable {G : ax_G} {l : Launch}
theorem en_F (E : ax_EN G l) : ax_FA G := E.1
theorem en_P (E : ax_EN G l) : ax_AP G := E.2.1
theorem en_B (E : ax_EN G l) : ax_TB G := E.2.2.1
theorem en_U (E : ax_EN G l) : ax_US G := E.2.2.2.1
theorem en_T (E : ax_EN G l) : l.stackTraces = false := E.2.2.2.2.1
theorem en_c (E : ax_EN G l) {k : Nat} {r : vw_C} (h : ax_cl[k]? = some r) : G.2.2.1[k]? = some r := by rw [E.2.2.2.2.2.1]; exact h
theorem en_s (E : ax_EN G l) (i : Nat) {q : String × String × String × Value} (h : ax_sts[i]? = some q) : ax_st G q.1 q.2.1 q.2.2.1 q.2.2.2 := E.2.2.2.2.2.2.1 q (List.mem_of_getElem? h)
theorem en_x (E : ax_EN G l) (i : Nat) {q : String × Nat × String × Nat} (h : ax_txs[i]? = some q) : vk_R q.1 q.2.1 q.2.2.1 (ax_ad G q.2.2.2) G.1 := E.2.2.2.2.2.2.2.1 q (List.mem_of_getElem? h)
theorem en_m (E : ax_EN G l) : va_Mi "[Ljava/lang/Object;" (ax_ad G 6) G.1 := E.2.2.2.2.2.2.2.2.1
theorem en_n (E : ax_EN G l) (i : Nat) {q : String × String} (h : ax_ncl[i]? = some q) : va_Nc q.1 q.2 G.1 := E.2.2.2.2.2.2.2.2.2 q (List.mem_of_getElem? h)
end EN
def ax_Ym : ax_Y := fun k => (cond (Nat.ble 279 k) (cond (Nat.ble 391 k) (cond (Nat.ble 447 k) (cond (Nat.ble 475 k) (cond (Nat.ble 489 k) (cond (Nat.ble 496 k) (cond (Nat.ble 500 k) (cond (Nat.ble 502 k) (cond (Nat.ble 503 k) (yX9_init, ws_ yX9_init cX9_init 3 (Option.none : Option Jvm.ClassFile.FieldType)) (yX9_go, ws_ yX9_go cX9_go 4 (Option.some Jvm.ClassFile.FieldType.int))) (cond (Nat.ble 501 k) (yX8_init, ws_ yX8_init cX8_init 6 (Option.none : Option Jvm.ClassFile.FieldType)) (yX8_go, ws_ yX8_go cX8_go 4 (Option.some Jvm.ClassFile.FieldType.int)))) (cond (Nat.ble 498 k) (cond (Nat.ble 499 k) (yX7_init, ws_ yX7_init cX7_init 3 (Option.none : Option Jvm.ClassFile.FieldType)) (yX6_init, ws_ yX6_init cX6_init 3 (Option.none : Option Jvm.ClassFile.FieldType))) (cond (Nat.ble 497 k) (yX6_go, ws_ yX6_go cX6_go 4 (Option.some Jvm.ClassFile.FieldType.int)) (yX5_init, ws_ yX5_init cX5_init 3 (Option.none : Option Jvm.ClassFile.FieldType))))) (cond (Nat.ble 492 k) (cond (Nat.ble 494 k) (cond (Nat.ble 495 k) (yX5_go, ws_ yX5_go cX5_go 4 (Option.some Jvm.ClassFile.FieldType.int)) (yX4_init, ws_ yX4_init cX4_init 1 (Option.none : Option Jvm.ClassFile.FieldType))) (cond (Nat.ble 493 k) (yX4_beginsMacro, ws_ yX4_beginsMacro cX4_beginsMacro 1 (Option.some Jvm.ClassFile.FieldType.boolean)) (yX4_endsMacro, ws_ yX4_endsMacro cX4_endsMacro 1 (Option.some Jvm.ClassFile.FieldType.boolean)))) (cond (Nat.ble 490 k) (cond (Nat.ble 491 k) (yX3_mark, ws_ yX3_mark cX3_mark 3 (Option.some Jvm.ClassFile.FieldType.int)) (yX3_result, ws_ yX3_result cX3_result 2 (Option.some Jvm.ClassFile.FieldType.int))) (yX3_isTapeOf, ws_ yX3_isTapeOf cX3_isTapeOf 4 (Option.some Jvm.ClassFile.FieldType.boolean))))) (cond (Nat.ble 482 k) (cond (Nat.ble 485 k) (cond (Nat.ble 487 k) (cond (Nat.ble 488 k) (yX3_madeTest, ws_ yX3_madeTest cX3_madeTest 3 (Option.some Jvm.ClassFile.FieldType.int)) (yX3_submit, ws_ yX3_submit cX3_submit 7 (Option.some Jvm.ClassFile.FieldType.int))) (cond (Nat.ble 486 k) (yX3_tests, ws_ yX3_tests cX3_tests 1 (Option.some Jvm.ClassFile.FieldType.int)) (yX3_addTest, ws_ yX3_addTest cX3_addTest 7 (Option.some Jvm.ClassFile.FieldType.int)))) (cond (Nat.ble 483 k) (cond (Nat.ble 484 k) (yX3_testWord, ws_ yX3_testWord cX3_testWord 2 (Option.some Jvm.ClassFile.FieldType.int)) (yX3_testKey, ws_ yX3_testKey cX3_testKey 2 (Option.some Jvm.ClassFile.FieldType.int))) (yX3_isEntrySo, ws_ yX3_isEntrySo cX3_isEntrySo 6 (Option.some Jvm.ClassFile.FieldType.boolean)))) (cond (Nat.ble 478 k) (cond (Nat.ble 480 k) (cond (Nat.ble 481 k) (yX3_isWholeNow, ws_ yX3_isWholeNow cX3_isWholeNow 6 (Option.some Jvm.ClassFile.FieldType.boolean)) (yX3_isWhole, ws_ yX3_isWhole cX3_isWhole 1 (Option.some Jvm.ClassFile.FieldType.boolean))) (cond (Nat.ble 479 k) (yX3_freeBlocks, ws_ yX3_freeBlocks cX3_freeBlocks 3 (Option.some Jvm.ClassFile.FieldType.int)) (yX3_wordOf, ws_ yX3_wordOf cX3_wordOf 5 (Option.some Jvm.ClassFile.FieldType.int)))) (cond (Nat.ble 476 k) (cond (Nat.ble 477 k) (yX3_errorOfName, ws_ yX3_errorOfName cX3_errorOfName 2 (Option.some Jvm.ClassFile.FieldType.int)) (yX3_size, ws_ yX3_size cX3_size 2 (Option.some Jvm.ClassFile.FieldType.int))) (yX3_files, ws_ yX3_files cX3_files 1 (Option.some Jvm.ClassFile.FieldType.int)))))) (cond (Nat.ble 461 k) (cond (Nat.ble 468 k) (cond (Nat.ble 471 k) (cond (Nat.ble 473 k) (cond (Nat.ble 474 k) (yX3_disk, ws_ yX3_disk cX3_disk 3 (Option.some Jvm.ClassFile.FieldType.int)) (yX3_written, ws_ yX3_written cX3_written 1 (Option.some Jvm.ClassFile.FieldType.int))) (cond (Nat.ble 472 k) (yX3_sumAnew, ws_ yX3_sumAnew cX3_sumAnew 4 (Option.some Jvm.ClassFile.FieldType.int)) (yX3_added, ws_ yX3_added cX3_added 2 (Option.some Jvm.ClassFile.FieldType.int)))) (cond (Nat.ble 469 k) (cond (Nat.ble 470 k) (yX3_sumOf, ws_ yX3_sumOf cX3_sumOf 3 (Option.some Jvm.ClassFile.FieldType.int)) (yX3_sum, ws_ yX3_sum cX3_sum 1 (Option.some Jvm.ClassFile.FieldType.int))) (yX3_tapeAt, ws_ yX3_tapeAt cX3_tapeAt 2 (Option.some Jvm.ClassFile.FieldType.int)))) (cond (Nat.ble 464 k) (cond (Nat.ble 466 k) (cond (Nat.ble 467 k) (yX3_tape, ws_ yX3_tape cX3_tape 1 (Option.some Jvm.ClassFile.FieldType.int)) (yX3_changedAt, ws_ yX3_changedAt cX3_changedAt 3 (Option.some Jvm.ClassFile.FieldType.int))) (cond (Nat.ble 465 k) (yX3_isAddress, ws_ yX3_isAddress cX3_isAddress 1 (Option.some Jvm.ClassFile.FieldType.boolean)) (yX3_memory, ws_ yX3_memory cX3_memory 2 (Option.some Jvm.ClassFile.FieldType.int)))) (cond (Nat.ble 462 k) (cond (Nat.ble 463 k) (yX3_register, ws_ yX3_register cX3_register 2 (Option.some Jvm.ClassFile.FieldType.int)) (yX3_writesLeft, ws_ yX3_writesLeft cX3_writesLeft 1 (Option.some Jvm.ClassFile.FieldType.int))) (yX3_flagsOf, ws_ yX3_flagsOf cX3_flagsOf 1 (Option.some Jvm.ClassFile.FieldType.int))))) (cond (Nat.ble 454 k) (cond (Nat.ble 457 k) (cond (Nat.ble 459 k) (cond (Nat.ble 460 k) (yX3_flags, ws_ yX3_flags cX3_flags 1 (Option.some Jvm.ClassFile.FieldType.int)) (yX3_stack, ws_ yX3_stack cX3_stack 1 (Option.some Jvm.ClassFile.FieldType.int))) (cond (Nat.ble 458 k) (yX3_counter, ws_ yX3_counter cX3_counter 1 (Option.some Jvm.ClassFile.FieldType.int)) (yX3_kept, ws_ yX3_kept cX3_kept 1 (Option.some Jvm.ClassFile.FieldType.int)))) (cond (Nat.ble 455 k) (cond (Nat.ble 456 k) (yX3_steps, ws_ yX3_steps cX3_steps 1 (Option.some Jvm.ClassFile.FieldType.int)) (yX3_fault, ws_ yX3_fault cX3_fault 1 (Option.some Jvm.ClassFile.FieldType.int))) (yX3_state, ws_ yX3_state cX3_state 1 (Option.some Jvm.ClassFile.FieldType.int)))) (cond (Nat.ble 450 k) (cond (Nat.ble 452 k) (cond (Nat.ble 453 k) (yX3_press, ws_ yX3_press cX3_press 3 (Option.some Jvm.ClassFile.FieldType.int)) (yX3_makesAnew, ws_ yX3_makesAnew cX3_makesAnew 3 (Option.none : Option Jvm.ClassFile.FieldType))) (cond (Nat.ble 451 k) (yX3_back, ws_ yX3_back cX3_back 4 (Option.some Jvm.ClassFile.FieldType.int)) (yX3_runTo, ws_ yX3_runTo cX3_runTo 5 (Option.some Jvm.ClassFile.FieldType.int)))) (cond (Nat.ble 448 k) (cond (Nat.ble 449 k) (yX3_keysCome, ws_ yX3_keysCome cX3_keysCome 2 (Option.none : Option Jvm.ClassFile.FieldType)) (yX3_come, ws_ yX3_come cX3_come 3 (Option.some Jvm.ClassFile.FieldType.int))) (yX3_prepares, ws_ yX3_prepares cX3_prepares 4 (Option.none : Option Jvm.ClassFile.FieldType))))))) (cond (Nat.ble 419 k) (cond (Nat.ble 433 k) (cond (Nat.ble 440 k) (cond (Nat.ble 443 k) (cond (Nat.ble 445 k) (cond (Nat.ble 446 k) (yX3_renames, ws_ yX3_renames cX3_renames 4 (Option.some Jvm.ClassFile.FieldType.int)) (yX3_removes, ws_ yX3_removes cX3_removes 5 (Option.some Jvm.ClassFile.FieldType.int))) (cond (Nat.ble 444 k) (yX3_replaces, ws_ yX3_replaces cX3_replaces 3 (Option.some Jvm.ClassFile.FieldType.int)) (yX3_turns, ws_ yX3_turns cX3_turns 2 (Option.none : Option Jvm.ClassFile.FieldType)))) (cond (Nat.ble 441 k) (cond (Nat.ble 442 k) (yX3_appends, ws_ yX3_appends cX3_appends 6 (Option.some Jvm.ClassFile.FieldType.int)) (yX3_blockOfEntry, ws_ yX3_blockOfEntry cX3_blockOfEntry 1 (Option.some Jvm.ClassFile.FieldType.int))) (yX3_makesFile, ws_ yX3_makesFile cX3_makesFile 2 (Option.some Jvm.ClassFile.FieldType.int)))) (cond (Nat.ble 436 k) (cond (Nat.ble 438 k) (cond (Nat.ble 439 k) (yX3_blockOf, ws_ yX3_blockOf cX3_blockOf 4 (Option.some Jvm.ClassFile.FieldType.int)) (yX3_isUsed, ws_ yX3_isUsed cX3_isUsed 2 (Option.some Jvm.ClassFile.FieldType.boolean))) (cond (Nat.ble 437 k) (yX3_freeBlock, ws_ yX3_freeBlock cX3_freeBlock 2 (Option.some Jvm.ClassFile.FieldType.int)) (yX3_resultOf, ws_ yX3_resultOf cX3_resultOf 5 (Option.some Jvm.ClassFile.FieldType.int)))) (cond (Nat.ble 434 k) (cond (Nat.ble 435 k) (yX3_find, ws_ yX3_find cX3_find 3 (Option.some Jvm.ClassFile.FieldType.int)) (yX3_calls, ws_ yX3_calls cX3_calls 6 (Option.none : Option Jvm.ClassFile.FieldType))) (yX3_others, ws_ yX3_others cX3_others 5 (Option.none : Option Jvm.ClassFile.FieldType))))) (cond (Nat.ble 426 k) (cond (Nat.ble 429 k) (cond (Nat.ble 431 k) (cond (Nat.ble 432 k) (yX3_pulls, ws_ yX3_pulls cX3_pulls 1 (Option.some Jvm.ClassFile.FieldType.int)) (yX3_jumps, ws_ yX3_jumps cX3_jumps 6 (Option.none : Option Jvm.ClassFile.FieldType))) (cond (Nat.ble 430 k) (yX3_shifted, ws_ yX3_shifted cX3_shifted 3 (Option.some Jvm.ClassFile.FieldType.int)) (yX3_made, ws_ yX3_made cX3_made 3 (Option.some Jvm.ClassFile.FieldType.long)))) (cond (Nat.ble 427 k) (cond (Nat.ble 428 k) (yX3_reckons, ws_ yX3_reckons cX3_reckons 7 (Option.none : Option Jvm.ClassFile.FieldType)) (yX3_faultOf, ws_ yX3_faultOf cX3_faultOf 5 (Option.some Jvm.ClassFile.FieldType.int))) (yX3_instructs, ws_ yX3_instructs cX3_instructs 6 (Option.none : Option Jvm.ClassFile.FieldType)))) (cond (Nat.ble 422 k) (cond (Nat.ble 424 k) (cond (Nat.ble 425 k) (yX3_keepsWrite, ws_ yX3_keepsWrite cX3_keepsWrite 2 (Option.none : Option Jvm.ClassFile.FieldType)) (yX3_writes, ws_ yX3_writes cX3_writes 3 (Option.none : Option Jvm.ClassFile.FieldType))) (cond (Nat.ble 423 k) (yX3_pushes, ws_ yX3_pushes cX3_pushes 2 (Option.none : Option Jvm.ClassFile.FieldType)) (yX3_faults, ws_ yX3_faults cX3_faults 2 (Option.none : Option Jvm.ClassFile.FieldType)))) (cond (Nat.ble 420 k) (cond (Nat.ble 421 k) (yX3_interrupts, ws_ yX3_interrupts cX3_interrupts 2 (Option.none : Option Jvm.ClassFile.FieldType)) (yX3_writesBlock, ws_ yX3_writesBlock cX3_writesBlock 5 (Option.none : Option Jvm.ClassFile.FieldType))) (yX3_stepsOnce, ws_ yX3_stepsOnce cX3_stepsOnce 1 (Option.none : Option Jvm.ClassFile.FieldType)))))) (cond (Nat.ble 405 k) (cond (Nat.ble 412 k) (cond (Nat.ble 415 k) (cond (Nat.ble 417 k) (cond (Nat.ble 418 k) (yX3_stepsAndKeeps, ws_ yX3_stepsAndKeeps cX3_stepsAndKeeps 1 (Option.none : Option Jvm.ClassFile.FieldType)) (yX3_canStep, ws_ yX3_canStep cX3_canStep 1 (Option.some Jvm.ClassFile.FieldType.boolean))) (cond (Nat.ble 416 k) (yX3_step, ws_ yX3_step cX3_step 3 (Option.some Jvm.ClassFile.FieldType.int)) (yX3_entry, ws_ yX3_entry cX3_entry 1 (Option.some Jvm.ClassFile.FieldType.int)))) (cond (Nat.ble 413 k) (cond (Nat.ble 414 k) (yX3_filesOf, ws_ yX3_filesOf cX3_filesOf 3 (Option.some Jvm.ClassFile.FieldType.int)) (yX3_format, ws_ yX3_format cX3_format 2 (Option.some Jvm.ClassFile.FieldType.int))) (yX3_crash, ws_ yX3_crash cX3_crash 2 (Option.some Jvm.ClassFile.FieldType.int)))) (cond (Nat.ble 408 k) (cond (Nat.ble 410 k) (cond (Nat.ble 411 k) (yX3_sleeps, ws_ yX3_sleeps cX3_sleeps 2 (Option.none : Option Jvm.ClassFile.FieldType)) (yX3_wakes, ws_ yX3_wakes cX3_wakes 3 (Option.none : Option Jvm.ClassFile.FieldType))) (cond (Nat.ble 409 k) (yX3_copies, ws_ yX3_copies cX3_copies 3 (Option.none : Option Jvm.ClassFile.FieldType)) (yX3_writesHead, ws_ yX3_writesHead cX3_writesHead 4 (Option.none : Option Jvm.ClassFile.FieldType)))) (cond (Nat.ble 406 k) (cond (Nat.ble 407 k) (yX3_checkOfLog, ws_ yX3_checkOfLog cX3_checkOfLog 3 (Option.some Jvm.ClassFile.FieldType.int)) (yX3_mends, ws_ yX3_mends cX3_mends 3 (Option.some Jvm.ClassFile.FieldType.int))) (yX3_isMachine, ws_ yX3_isMachine cX3_isMachine 1 (Option.some Jvm.ClassFile.FieldType.boolean))))) (cond (Nat.ble 398 k) (cond (Nat.ble 401 k) (cond (Nat.ble 403 k) (cond (Nat.ble 404 k) (yX3_start, ws_ yX3_start cX3_start 2 (Option.some Jvm.ClassFile.FieldType.int)) (yX3_image, ws_ yX3_image cX3_image 2 (Option.some Jvm.ClassFile.FieldType.int))) (cond (Nat.ble 402 k) (yX3_assemble, ws_ yX3_assemble cX3_assemble 2 (Option.some Jvm.ClassFile.FieldType.int)) (yX3_setsLabel, ws_ yX3_setsLabel cX3_setsLabel 3 (Option.some Jvm.ClassFile.FieldType.int)))) (cond (Nat.ble 399 k) (cond (Nat.ble 400 k) (yX3_puts, ws_ yX3_puts cX3_puts 2 (Option.none : Option Jvm.ClassFile.FieldType)) (yX3_builds, ws_ yX3_builds cX3_builds 5 (Option.some Jvm.ClassFile.FieldType.int))) (yX3_placeOf, ws_ yX3_placeOf cX3_placeOf 2 (Option.some Jvm.ClassFile.FieldType.int)))) (cond (Nat.ble 394 k) (cond (Nat.ble 396 k) (cond (Nat.ble 397 k) (yX3_value, ws_ yX3_value cX3_value 4 (Option.some Jvm.ClassFile.FieldType.int)) (yX3_isGoneThrough, ws_ yX3_isGoneThrough cX3_isGoneThrough 3 (Option.some Jvm.ClassFile.FieldType.boolean))) (cond (Nat.ble 395 k) (yX3_usesMacro, ws_ yX3_usesMacro cX3_usesMacro 8 (Option.some Jvm.ClassFile.FieldType.int)) (yX3_nextOf, ws_ yX3_nextOf cX3_nextOf 3 (Option.some Jvm.ClassFile.FieldType.int)))) (cond (Nat.ble 392 k) (cond (Nat.ble 393 k) (yX3_begins, ws_ yX3_begins cX3_begins 4 (Option.some Jvm.ClassFile.FieldType.int)) (yX3_wordsOf, ws_ yX3_wordsOf cX3_wordsOf 3 (Option.some Jvm.ClassFile.FieldType.int))) (yX3_goes, ws_ yX3_goes cX3_goes 5 (Option.some Jvm.ClassFile.FieldType.int)))))))) (cond (Nat.ble 335 k) (cond (Nat.ble 363 k) (cond (Nat.ble 377 k) (cond (Nat.ble 384 k) (cond (Nat.ble 387 k) (cond (Nat.ble 389 k) (cond (Nat.ble 390 k) (yX3_goesThrough, ws_ yX3_goesThrough cX3_goesThrough 4 (Option.some Jvm.ClassFile.FieldType.int)) (yX3_errorOfSource, ws_ yX3_errorOfSource cX3_errorOfSource 2 (Option.some Jvm.ClassFile.FieldType.int))) (cond (Nat.ble 388 k) (yX3_error, ws_ yX3_error cX3_error 1 (Option.some Jvm.ClassFile.FieldType.int)) (yX3_use, ws_ yX3_use cX3_use 7 (Option.some Jvm.ClassFile.FieldType.int)))) (cond (Nat.ble 385 k) (cond (Nat.ble 386 k) (yX3_endMacro, ws_ yX3_endMacro cX3_endMacro 1 (Option.some Jvm.ClassFile.FieldType.int)) (yX3_macro, ws_ yX3_macro cX3_macro 2 (Option.some Jvm.ClassFile.FieldType.int))) (yX3_vector, ws_ yX3_vector cX3_vector 4 (Option.some Jvm.ClassFile.FieldType.int)))) (cond (Nat.ble 380 k) (cond (Nat.ble 382 k) (cond (Nat.ble 383 k) (yX3_space, ws_ yX3_space cX3_space 2 (Option.some Jvm.ClassFile.FieldType.int)) (yX3_word, ws_ yX3_word cX3_word 3 (Option.some Jvm.ClassFile.FieldType.int))) (cond (Nat.ble 381 k) (yX3_isOperand, ws_ yX3_isOperand cX3_isOperand 2 (Option.some Jvm.ClassFile.FieldType.boolean)) (yX3_code, ws_ yX3_code cX3_code 7 (Option.some Jvm.ClassFile.FieldType.int)))) (cond (Nat.ble 378 k) (cond (Nat.ble 379 k) (yX3_label, ws_ yX3_label cX3_label 2 (Option.some Jvm.ClassFile.FieldType.int)) (yX3_holds, ws_ yX3_holds cX3_holds 2 (Option.some Jvm.ClassFile.FieldType.boolean))) (yX3_adds, ws_ yX3_adds cX3_adds 8 (Option.some Jvm.ClassFile.FieldType.int))))) (cond (Nat.ble 370 k) (cond (Nat.ble 373 k) (cond (Nat.ble 375 k) (cond (Nat.ble 376 k) (yX3_in, ws_ yX3_in cX3_in 3 (Option.some Jvm.ClassFile.FieldType.boolean)) (yX3_section, ws_ yX3_section cX3_section 2 (Option.some Jvm.ClassFile.FieldType.int))) (cond (Nat.ble 374 k) (yX3_lines, ws_ yX3_lines cX3_lines 1 (Option.some Jvm.ClassFile.FieldType.int)) (yX3_clear, ws_ yX3_clear cX3_clear 2 (Option.some Jvm.ClassFile.FieldType.int)))) (cond (Nat.ble 371 k) (cond (Nat.ble 372 k) (yX3_thrown, ws_ yX3_thrown cX3_thrown 1 (Option.some Jvm.ClassFile.FieldType.int)) (yX3_formats, ws_ yX3_formats cX3_formats 2 (Option.none : Option Jvm.ClassFile.FieldType))) (yX3_init, ws_ yX3_init cX3_init 1 (Option.none : Option Jvm.ClassFile.FieldType)))) (cond (Nat.ble 366 k) (cond (Nat.ble 368 k) (cond (Nat.ble 369 k) (yX27_resultOf, ws_ yX27_resultOf cX27_resultOf 4 (Option.some Jvm.ClassFile.FieldType.int)) (yX27_make, ws_ yX27_make cX27_make 7 (Option.none : Option Jvm.ClassFile.FieldType))) (cond (Nat.ble 367 k) (yX27_init, ws_ yX27_init cX27_init 7 (Option.none : Option Jvm.ClassFile.FieldType)) (yX27_worth, ws_ yX27_worth cX27_worth 1 (Option.some Jvm.ClassFile.FieldType.int)))) (cond (Nat.ble 364 k) (cond (Nat.ble 365 k) (yX26_init, ws_ yX26_init cX26_init 3 (Option.none : Option Jvm.ClassFile.FieldType)) (yX25_init, ws_ yX25_init cX25_init 1 (Option.none : Option Jvm.ClassFile.FieldType))) (yX24_init, ws_ yX24_init cX24_init 2 (Option.none : Option Jvm.ClassFile.FieldType)))))) (cond (Nat.ble 349 k) (cond (Nat.ble 356 k) (cond (Nat.ble 359 k) (cond (Nat.ble 361 k) (cond (Nat.ble 362 k) (yX23_init, ws_ yX23_init cX23_init 2 (Option.none : Option Jvm.ClassFile.FieldType)) (yX22_init, ws_ yX22_init cX22_init 2 (Option.none : Option Jvm.ClassFile.FieldType))) (cond (Nat.ble 360 k) (yX21_has, ws_ yX21_has cX21_has 4 (Option.some Jvm.ClassFile.FieldType.boolean)) (yX21_note, ws_ yX21_note cX21_note 4 (Option.none : Option Jvm.ClassFile.FieldType)))) (cond (Nat.ble 357 k) (cond (Nat.ble 358 k) (yX21_init, ws_ yX21_init cX21_init 1 (Option.none : Option Jvm.ClassFile.FieldType)) (yX20_init, ws_ yX20_init cX20_init 2 (Option.none : Option Jvm.ClassFile.FieldType))) (yX20_begin, ws_ yX20_begin cX20_begin 3 (Option.some (Jvm.ClassFile.FieldType.object "KernelGym$Use"))))) (cond (Nat.ble 352 k) (cond (Nat.ble 354 k) (cond (Nat.ble 355 k) (yX20_point, ws_ yX20_point cX20_point 3 (Option.none : Option Jvm.ClassFile.FieldType)) (yX20_value, ws_ yX20_value cX20_value 4 (Option.some Jvm.ClassFile.FieldType.int))) (cond (Nat.ble 353 k) (yX20_take, ws_ yX20_take cX20_take 3 (Option.none : Option Jvm.ClassFile.FieldType)) (yX20_set, ws_ yX20_set cX20_set 4 (Option.none : Option Jvm.ClassFile.FieldType)))) (cond (Nat.ble 350 k) (cond (Nat.ble 351 k) (yX2_sumAnew, ws_ yX2_sumAnew cX2_sumAnew 4 (Option.some Jvm.ClassFile.FieldType.int)) (yX2_changedAt, ws_ yX2_changedAt cX2_changedAt 4 (Option.some Jvm.ClassFile.FieldType.int))) (yX2_press, ws_ yX2_press cX2_press 5 (Option.none : Option Jvm.ClassFile.FieldType))))) (cond (Nat.ble 342 k) (cond (Nat.ble 345 k) (cond (Nat.ble 347 k) (cond (Nat.ble 348 k) (yX2_back, ws_ yX2_back cX2_back 5 (Option.some Jvm.ClassFile.FieldType.int)) (yX2_pass, ws_ yX2_pass cX2_pass 2 (Option.none : Option Jvm.ClassFile.FieldType))) (cond (Nat.ble 346 k) (yX2_stop, ws_ yX2_stop cX2_stop 2 (Option.none : Option Jvm.ClassFile.FieldType)) (yX2_rename, ws_ yX2_rename cX2_rename 5 (Option.some Jvm.ClassFile.FieldType.int)))) (cond (Nat.ble 343 k) (cond (Nat.ble 344 k) (yX2_remove, ws_ yX2_remove cX2_remove 3 (Option.none : Option Jvm.ClassFile.FieldType)) (yX2_wordOf, ws_ yX2_wordOf cX2_wordOf 3 (Option.some Jvm.ClassFile.FieldType.int))) (yX2_mark, ws_ yX2_mark cX2_mark 5 (Option.none : Option Jvm.ClassFile.FieldType)))) (cond (Nat.ble 338 k) (cond (Nat.ble 340 k) (cond (Nat.ble 341 k) (yX2_firstFree, ws_ yX2_firstFree cX2_firstFree 3 (Option.some Jvm.ClassFile.FieldType.int)) (yX2_append, ws_ yX2_append cX2_append 9 (Option.some Jvm.ClassFile.FieldType.int))) (cond (Nat.ble 339 k) (yX2_draft, ws_ yX2_draft cX2_draft 5 (Option.some (Jvm.ClassFile.FieldType.array Jvm.ClassFile.FieldType.int))) (yX2_setEntry, ws_ yX2_setEntry cX2_setEntry 4 (Option.none : Option Jvm.ClassFile.FieldType)))) (cond (Nat.ble 336 k) (cond (Nat.ble 337 k) (yX2_named, ws_ yX2_named cX2_named 2 (Option.some Jvm.ClassFile.FieldType.int)) (yX2_plan, ws_ yX2_plan cX2_plan 6 (Option.some Jvm.ClassFile.FieldType.int))) (yX2_call, ws_ yX2_call cX2_call 5 (Option.some Jvm.ClassFile.FieldType.boolean))))))) (cond (Nat.ble 307 k) (cond (Nat.ble 321 k) (cond (Nat.ble 328 k) (cond (Nat.ble 331 k) (cond (Nat.ble 333 k) (cond (Nat.ble 334 k) (yX2_told, ws_ yX2_told cX2_told 6 (Option.some Jvm.ClassFile.FieldType.int)) (yX2_read, ws_ yX2_read cX2_read 2 (Option.some Jvm.ClassFile.FieldType.int))) (cond (Nat.ble 332 k) (yX2_serve, ws_ yX2_serve cX2_serve 6 (Option.some Jvm.ClassFile.FieldType.int)) (yX2_pull, ws_ yX2_pull cX2_pull 2 (Option.some Jvm.ClassFile.FieldType.int)))) (cond (Nat.ble 329 k) (cond (Nat.ble 330 k) (yX2_held, ws_ yX2_held cX2_held 2 (Option.none : Option Jvm.ClassFile.FieldType)) (yX2_move, ws_ yX2_move cX2_move 5 (Option.some Jvm.ClassFile.FieldType.int))) (yX2_reckon, ws_ yX2_reckon cX2_reckon 7 (Option.none : Option Jvm.ClassFile.FieldType)))) (cond (Nat.ble 324 k) (cond (Nat.ble 326 k) (cond (Nat.ble 327 k) (yX2_address, ws_ yX2_address cX2_address 1 (Option.some Jvm.ClassFile.FieldType.int)) (yX2_instruct, ws_ yX2_instruct cX2_instruct 8 (Option.none : Option Jvm.ClassFile.FieldType))) (cond (Nat.ble 325 k) (yX2_push, ws_ yX2_push cX2_push 2 (Option.none : Option Jvm.ClassFile.FieldType)) (yX2_room, ws_ yX2_room cX2_room 2 (Option.none : Option Jvm.ClassFile.FieldType)))) (cond (Nat.ble 322 k) (cond (Nat.ble 323 k) (yX2_interrupt, ws_ yX2_interrupt cX2_interrupt 2 (Option.none : Option Jvm.ClassFile.FieldType)) (yX2_isWaiting, ws_ yX2_isWaiting cX2_isWaiting 1 (Option.some Jvm.ClassFile.FieldType.boolean))) (yX2_writeHead, ws_ yX2_writeHead cX2_writeHead 5 (Option.none : Option Jvm.ClassFile.FieldType))))) (cond (Nat.ble 314 k) (cond (Nat.ble 317 k) (cond (Nat.ble 319 k) (cond (Nat.ble 320 k) (yX2_set, ws_ yX2_set cX2_set 3 (Option.none : Option Jvm.ClassFile.FieldType)) (yX2_writeBlock, ws_ yX2_writeBlock cX2_writeBlock 4 (Option.none : Option Jvm.ClassFile.FieldType))) (cond (Nat.ble 318 k) (yX2_write, ws_ yX2_write cX2_write 3 (Option.none : Option Jvm.ClassFile.FieldType)) (yX2_act, ws_ yX2_act cX2_act 1 (Option.none : Option Jvm.ClassFile.FieldType)))) (cond (Nat.ble 315 k) (cond (Nat.ble 316 k) (yX2_make, wsW_ yX2_make cX2_make 2 (Option.none : Option Jvm.ClassFile.FieldType) [(50, 54, 57, 147), (50, 54, 57, 149), (50, 54, 77, 155), (50, 54, 77, 157)]) (yX2_goesOn, ws_ yX2_goesOn cX2_goesOn 1 (Option.some Jvm.ClassFile.FieldType.boolean))) (yX2_crash, ws_ yX2_crash cX2_crash 3 (Option.some Jvm.ClassFile.FieldType.int)))) (cond (Nat.ble 310 k) (cond (Nat.ble 312 k) (cond (Nat.ble 313 k) (yX2_begin, ws_ yX2_begin cX2_begin 2 (Option.none : Option Jvm.ClassFile.FieldType)) (yX2_logged, ws_ yX2_logged cX2_logged 4 (Option.some Jvm.ClassFile.FieldType.int))) (cond (Nat.ble 311 k) (yX2_mend, ws_ yX2_mend cX2_mend 4 (Option.some Jvm.ClassFile.FieldType.int)) (yX2_start, ws_ yX2_start cX2_start 3 (Option.some Jvm.ClassFile.FieldType.int)))) (cond (Nat.ble 308 k) (cond (Nat.ble 309 k) (yX2_isOn, ws_ yX2_isOn cX2_isOn 1 (Option.some Jvm.ClassFile.FieldType.boolean)) (yX2_find, ws_ yX2_find cX2_find 4 (Option.some Jvm.ClassFile.FieldType.int))) (yX2_isWhole, ws_ yX2_isWhole cX2_isWhole 8 (Option.some Jvm.ClassFile.FieldType.boolean)))))) (cond (Nat.ble 293 k) (cond (Nat.ble 300 k) (cond (Nat.ble 303 k) (cond (Nat.ble 305 k) (cond (Nat.ble 306 k) (yX2_isUsed, ws_ yX2_isUsed cX2_isUsed 2 (Option.some Jvm.ClassFile.FieldType.boolean)) (yX2_entry, ws_ yX2_entry cX2_entry 3 (Option.some Jvm.ClassFile.FieldType.int))) (cond (Nat.ble 304 k) (yX2_joined, ws_ yX2_joined cX2_joined 2 (Option.some Jvm.ClassFile.FieldType.int)) (yX2_added, ws_ yX2_added cX2_added 6 (Option.some Jvm.ClassFile.FieldType.int)))) (cond (Nat.ble 301 k) (cond (Nat.ble 302 k) (yX2_sum, ws_ yX2_sum cX2_sum 2 (Option.some Jvm.ClassFile.FieldType.int)) (yX2_writesLeft, ws_ yX2_writesLeft cX2_writesLeft 1 (Option.some Jvm.ClassFile.FieldType.int))) (yX2_flags, ws_ yX2_flags cX2_flags 1 (Option.some Jvm.ClassFile.FieldType.int)))) (cond (Nat.ble 296 k) (cond (Nat.ble 298 k) (cond (Nat.ble 299 k) (yX2_format, ws_ yX2_format cX2_format 2 (Option.none : Option Jvm.ClassFile.FieldType)) (yX2_init, ws_ yX2_init cX2_init 2 (Option.none : Option Jvm.ClassFile.FieldType))) (cond (Nat.ble 297 k) (yX19_told, ws_ yX19_told cX19_told 1 (Option.some Jvm.ClassFile.FieldType.int)) (yX19_init, ws_ yX19_init cX19_init 3 (Option.none : Option Jvm.ClassFile.FieldType)))) (cond (Nat.ble 294 k) (cond (Nat.ble 295 k) (yX18_begin, ws_ yX18_begin cX18_begin 4 (Option.some (Jvm.ClassFile.FieldType.object "KernelGym$Use"))) (yX18_point, ws_ yX18_point cX18_point 3 (Option.none : Option Jvm.ClassFile.FieldType))) (yX18_value, ws_ yX18_value cX18_value 4 (Option.some Jvm.ClassFile.FieldType.int))))) (cond (Nat.ble 286 k) (cond (Nat.ble 289 k) (cond (Nat.ble 291 k) (cond (Nat.ble 292 k) (yX18_take, ws_ yX18_take cX18_take 3 (Option.none : Option Jvm.ClassFile.FieldType)) (yX18_set, ws_ yX18_set cX18_set 5 (Option.none : Option Jvm.ClassFile.FieldType))) (cond (Nat.ble 290 k) (yX18_init, ws_ yX18_init cX18_init 3 (Option.none : Option Jvm.ClassFile.FieldType)) (yX17_expand, ws_ yX17_expand cX17_expand 9 (Option.none : Option Jvm.ClassFile.FieldType)))) (cond (Nat.ble 287 k) (cond (Nat.ble 288 k) (yX17_define, ws_ yX17_define cX17_define 4 (Option.some Jvm.ClassFile.FieldType.int)) (yX17_go, ws_ yX17_go cX17_go 5 (Option.none : Option Jvm.ClassFile.FieldType))) (yX17_init, ws_ yX17_init cX17_init 3 (Option.none : Option Jvm.ClassFile.FieldType)))) (cond (Nat.ble 282 k) (cond (Nat.ble 284 k) (cond (Nat.ble 285 k) (yX16_init, ws_ yX16_init cX16_init 3 (Option.none : Option Jvm.ClassFile.FieldType)) (yX15_makeWords, ws_ yX15_makeWords cX15_makeWords 2 (Option.none : Option Jvm.ClassFile.FieldType))) (cond (Nat.ble 283 k) (yX15_address, ws_ yX15_address cX15_address 5 (Option.some Jvm.ClassFile.FieldType.int)) (yX15_rowOf, ws_ yX15_rowOf cX15_rowOf 3 (Option.some (Jvm.ClassFile.FieldType.array Jvm.ClassFile.FieldType.int))))) (cond (Nat.ble 280 k) (cond (Nat.ble 281 k) (yX15_init, ws_ yX15_init cX15_init 3 (Option.none : Option Jvm.ClassFile.FieldType)) (yX14_init, ws_ yX14_init cX14_init 5 (Option.none : Option Jvm.ClassFile.FieldType))) (yX14_go, ws_ yX14_go cX14_go 4 (Option.some Jvm.ClassFile.FieldType.int))))))))) (cond (Nat.ble 158 k) (cond (Nat.ble 222 k) (cond (Nat.ble 250 k) (cond (Nat.ble 264 k) (cond (Nat.ble 271 k) (cond (Nat.ble 275 k) (cond (Nat.ble 277 k) (cond (Nat.ble 278 k) (yX13_init, ws_ yX13_init cX13_init 2 (Option.none : Option Jvm.ClassFile.FieldType)) (yX13_go, ws_ yX13_go cX13_go 4 (Option.some Jvm.ClassFile.FieldType.int))) (cond (Nat.ble 276 k) (yX13_endsMacro, ws_ yX13_endsMacro cX13_endsMacro 1 (Option.some Jvm.ClassFile.FieldType.boolean)) (yX12_init, ws_ yX12_init cX12_init 3 (Option.none : Option Jvm.ClassFile.FieldType)))) (cond (Nat.ble 273 k) (cond (Nat.ble 274 k) (yX12_beginsMacro, ws_ yX12_beginsMacro cX12_beginsMacro 1 (Option.some Jvm.ClassFile.FieldType.boolean)) (yX12_go, ws_ yX12_go cX12_go 4 (Option.some Jvm.ClassFile.FieldType.int))) (cond (Nat.ble 272 k) (yX11_init, ws_ yX11_init cX11_init 4 (Option.none : Option Jvm.ClassFile.FieldType)) (yX11_go, ws_ yX11_go cX11_go 4 (Option.some Jvm.ClassFile.FieldType.int))))) (cond (Nat.ble 267 k) (cond (Nat.ble 269 k) (cond (Nat.ble 270 k) (yX10_init, ws_ yX10_init cX10_init 3 (Option.none : Option Jvm.ClassFile.FieldType)) (yX10_go, ws_ yX10_go cX10_go 5 (Option.some Jvm.ClassFile.FieldType.int))) (cond (Nat.ble 268 k) (yX1_result, ws_ yX1_result cX1_result 2 (Option.some Jvm.ClassFile.FieldType.int)) (yX1_submit, ws_ yX1_submit cX1_submit 4 (Option.some Jvm.ClassFile.FieldType.int)))) (cond (Nat.ble 265 k) (cond (Nat.ble 266 k) (yX1_taken, ws_ yX1_taken cX1_taken 3 (Option.some (Jvm.ClassFile.FieldType.array Jvm.ClassFile.FieldType.int))) (yX1_addTest, ws_ yX1_addTest cX1_addTest 5 (Option.some Jvm.ClassFile.FieldType.int))) (yX1_testWord, ws_ yX1_testWord cX1_testWord 2 (Option.some Jvm.ClassFile.FieldType.int))))) (cond (Nat.ble 257 k) (cond (Nat.ble 260 k) (cond (Nat.ble 262 k) (cond (Nat.ble 263 k) (yX1_draft, ws_ yX1_draft cX1_draft 2 (Option.some Jvm.ClassFile.FieldType.int)) (yX1_testKey, ws_ yX1_testKey cX1_testKey 2 (Option.some Jvm.ClassFile.FieldType.int))) (cond (Nat.ble 261 k) (yX1_wordOf, ws_ yX1_wordOf cX1_wordOf 4 (Option.some Jvm.ClassFile.FieldType.int)) (yX1_file, ws_ yX1_file cX1_file 3 (Option.some Jvm.ClassFile.FieldType.int)))) (cond (Nat.ble 258 k) (cond (Nat.ble 259 k) (yX1_size, ws_ yX1_size cX1_size 2 (Option.some Jvm.ClassFile.FieldType.int)) (yX1_disk, ws_ yX1_disk cX1_disk 3 (Option.some Jvm.ClassFile.FieldType.int))) (yX1_sumAnew, ws_ yX1_sumAnew cX1_sumAnew 2 (Option.some Jvm.ClassFile.FieldType.int)))) (cond (Nat.ble 253 k) (cond (Nat.ble 255 k) (cond (Nat.ble 256 k) (yX1_tapeAt, ws_ yX1_tapeAt cX1_tapeAt 2 (Option.some Jvm.ClassFile.FieldType.int)) (yX1_changedAt, ws_ yX1_changedAt cX1_changedAt 2 (Option.some Jvm.ClassFile.FieldType.int))) (cond (Nat.ble 254 k) (yX1_memory, ws_ yX1_memory cX1_memory 2 (Option.some Jvm.ClassFile.FieldType.int)) (yX1_register, ws_ yX1_register cX1_register 2 (Option.some Jvm.ClassFile.FieldType.int)))) (cond (Nat.ble 251 k) (cond (Nat.ble 252 k) (yX1_press, ws_ yX1_press cX1_press 2 (Option.some Jvm.ClassFile.FieldType.int)) (yX1_back, ws_ yX1_back cX1_back 2 (Option.some Jvm.ClassFile.FieldType.int))) (yX1_runTo, ws_ yX1_runTo cX1_runTo 5 (Option.some Jvm.ClassFile.FieldType.int)))))) (cond (Nat.ble 236 k) (cond (Nat.ble 243 k) (cond (Nat.ble 246 k) (cond (Nat.ble 248 k) (cond (Nat.ble 249 k) (yX1_step, ws_ yX1_step cX1_step 3 (Option.some Jvm.ClassFile.FieldType.int)) (yX1_format, ws_ yX1_format cX1_format 2 (Option.some Jvm.ClassFile.FieldType.int))) (cond (Nat.ble 247 k) (yX1_crash, ws_ yX1_crash cX1_crash 1 (Option.some Jvm.ClassFile.FieldType.int)) (yX1_start, ws_ yX1_start cX1_start 1 (Option.some Jvm.ClassFile.FieldType.int)))) (cond (Nat.ble 244 k) (cond (Nat.ble 245 k) (yX1_image, ws_ yX1_image cX1_image 2 (Option.some Jvm.ClassFile.FieldType.int)) (yX1_assemble, wsW_ yX1_assemble cX1_assemble 2 (Option.some Jvm.ClassFile.FieldType.int) [(0, 21, 22, 1)])) (yX1_use, ws_ yX1_use cX1_use 8 (Option.some Jvm.ClassFile.FieldType.int)))) (cond (Nat.ble 239 k) (cond (Nat.ble 241 k) (cond (Nat.ble 242 k) (yX1_endMacro, ws_ yX1_endMacro cX1_endMacro 1 (Option.some Jvm.ClassFile.FieldType.int)) (yX1_macro, ws_ yX1_macro cX1_macro 2 (Option.some Jvm.ClassFile.FieldType.int))) (cond (Nat.ble 240 k) (yX1_vector, ws_ yX1_vector cX1_vector 5 (Option.some Jvm.ClassFile.FieldType.int)) (yX1_space, ws_ yX1_space cX1_space 2 (Option.some Jvm.ClassFile.FieldType.int)))) (cond (Nat.ble 237 k) (cond (Nat.ble 238 k) (yX1_word, ws_ yX1_word cX1_word 4 (Option.some Jvm.ClassFile.FieldType.int)) (yX1_operand, ws_ yX1_operand cX1_operand 2 (Option.some (Jvm.ClassFile.FieldType.object "KernelGym$Operand")))) (yX1_code, ws_ yX1_code cX1_code 7 (Option.some Jvm.ClassFile.FieldType.int))))) (cond (Nat.ble 229 k) (cond (Nat.ble 232 k) (cond (Nat.ble 234 k) (cond (Nat.ble 235 k) (yX1_label, ws_ yX1_label cX1_label 2 (Option.some Jvm.ClassFile.FieldType.int)) (yX1_must, ws_ yX1_must cX1_must 1 (Option.none : Option Jvm.ClassFile.FieldType))) (cond (Nat.ble 233 k) (yX1_add, ws_ yX1_add cX1_add 2 (Option.some Jvm.ClassFile.FieldType.int)) (yX1_in, ws_ yX1_in cX1_in 3 (Option.some Jvm.ClassFile.FieldType.int)))) (cond (Nat.ble 230 k) (cond (Nat.ble 231 k) (yX1_section, ws_ yX1_section cX1_section 2 (Option.some Jvm.ClassFile.FieldType.int)) (yX1_mark, ws_ yX1_mark cX1_mark 4 (Option.some Jvm.ClassFile.FieldType.int))) (yX1_tests, ws_ yX1_tests cX1_tests 1 (Option.some Jvm.ClassFile.FieldType.int)))) (cond (Nat.ble 225 k) (cond (Nat.ble 227 k) (cond (Nat.ble 228 k) (yX1_isWhole, ws_ yX1_isWhole cX1_isWhole 1 (Option.some Jvm.ClassFile.FieldType.boolean)) (yX1_freeBlocks, ws_ yX1_freeBlocks cX1_freeBlocks 3 (Option.some Jvm.ClassFile.FieldType.int))) (cond (Nat.ble 226 k) (yX1_files, ws_ yX1_files cX1_files 3 (Option.some Jvm.ClassFile.FieldType.int)) (yX1_written, ws_ yX1_written cX1_written 1 (Option.some Jvm.ClassFile.FieldType.int)))) (cond (Nat.ble 223 k) (cond (Nat.ble 224 k) (yX1_sum, ws_ yX1_sum cX1_sum 1 (Option.some Jvm.ClassFile.FieldType.int)) (yX1_tape, ws_ yX1_tape cX1_tape 1 (Option.some Jvm.ClassFile.FieldType.int))) (yX1_writesLeft, ws_ yX1_writesLeft cX1_writesLeft 1 (Option.some Jvm.ClassFile.FieldType.int))))))) (cond (Nat.ble 194 k) (cond (Nat.ble 208 k) (cond (Nat.ble 215 k) (cond (Nat.ble 218 k) (cond (Nat.ble 220 k) (cond (Nat.ble 221 k) (yX1_flags, ws_ yX1_flags cX1_flags 1 (Option.some Jvm.ClassFile.FieldType.int)) (yX1_stack, ws_ yX1_stack cX1_stack 1 (Option.some Jvm.ClassFile.FieldType.int))) (cond (Nat.ble 219 k) (yX1_counter, ws_ yX1_counter cX1_counter 1 (Option.some Jvm.ClassFile.FieldType.int)) (yX1_kept, ws_ yX1_kept cX1_kept 1 (Option.some Jvm.ClassFile.FieldType.int)))) (cond (Nat.ble 216 k) (cond (Nat.ble 217 k) (yX1_steps, ws_ yX1_steps cX1_steps 1 (Option.some Jvm.ClassFile.FieldType.int)) (yX1_fault, ws_ yX1_fault cX1_fault 1 (Option.some Jvm.ClassFile.FieldType.int))) (yX1_state, ws_ yX1_state cX1_state 1 (Option.some Jvm.ClassFile.FieldType.int)))) (cond (Nat.ble 211 k) (cond (Nat.ble 213 k) (cond (Nat.ble 214 k) (yX1_cut, ws_ yX1_cut cX1_cut 2 (Option.some Jvm.ClassFile.FieldType.int)) (yX1_check, ws_ yX1_check cX1_check 3 (Option.none : Option Jvm.ClassFile.FieldType))) (cond (Nat.ble 212 k) (yX1_error, wsW_ yX1_error cX1_error 2 (Option.some Jvm.ClassFile.FieldType.int) [(0, 19, 20, 1)]) (yX1_lines, ws_ yX1_lines cX1_lines 1 (Option.some Jvm.ClassFile.FieldType.int)))) (cond (Nat.ble 209 k) (cond (Nat.ble 210 k) (yX1_clear, ws_ yX1_clear cX1_clear 2 (Option.some Jvm.ClassFile.FieldType.int)) (yX1_init, ws_ yX1_init cX1_init 1 (Option.none : Option Jvm.ClassFile.FieldType))) (yX0_result, wsW_ yX0_result cX0_result 4 (Option.some Jvm.ClassFile.FieldType.int) [(0, 9, 12, 84)])))) (cond (Nat.ble 201 k) (cond (Nat.ble 204 k) (cond (Nat.ble 206 k) (cond (Nat.ble 207 k) (yX0_submit, wsW_ yX0_submit cX0_submit 3 (Option.some Jvm.ClassFile.FieldType.int) [(0, 8, 11, 15)]) (yX0_addTest, wsW_ yX0_addTest cX0_addTest 7 (Option.some Jvm.ClassFile.FieldType.int) [(0, 14, 17, 13), (0, 14, 21, 15)])) (cond (Nat.ble 205 k) (yX0_testWord, wsW_ yX0_testWord cX0_testWord 4 (Option.some Jvm.ClassFile.FieldType.int) [(0, 9, 12, 13), (0, 9, 15, 15)]) (yX0_testKey, wsW_ yX0_testKey cX0_testKey 4 (Option.some Jvm.ClassFile.FieldType.int) [(0, 9, 12, 13), (0, 9, 15, 15)]))) (cond (Nat.ble 202 k) (cond (Nat.ble 203 k) (yX0_wordOf, wsW_ yX0_wordOf cX0_wordOf 5 (Option.some Jvm.ClassFile.FieldType.int) [(0, 10, 13, 13), (0, 10, 17, 95), (0, 10, 21, 84)]) (yX0_size, wsW_ yX0_size cX0_size 4 (Option.some Jvm.ClassFile.FieldType.int) [(0, 9, 12, 13), (0, 9, 15, 95)])) (yX0_disk, wsW_ yX0_disk cX0_disk 5 (Option.some Jvm.ClassFile.FieldType.int) [(0, 10, 13, 13)]))) (cond (Nat.ble 197 k) (cond (Nat.ble 199 k) (cond (Nat.ble 200 k) (yX0_sumAnew, wsW_ yX0_sumAnew cX0_sumAnew 4 (Option.some Jvm.ClassFile.FieldType.int) [(0, 9, 12, 15), (0, 9, 15, 13)]) (yX0_tapeAt, wsW_ yX0_tapeAt cX0_tapeAt 4 (Option.some Jvm.ClassFile.FieldType.int) [(0, 9, 12, 84)])) (cond (Nat.ble 198 k) (yX0_changedAt, wsW_ yX0_changedAt cX0_changedAt 4 (Option.some Jvm.ClassFile.FieldType.int) [(0, 9, 12, 13)]) (yX0_memory, wsW_ yX0_memory cX0_memory 4 (Option.some Jvm.ClassFile.FieldType.int) [(0, 9, 12, 13)]))) (cond (Nat.ble 195 k) (cond (Nat.ble 196 k) (yX0_register, wsW_ yX0_register cX0_register 4 (Option.some Jvm.ClassFile.FieldType.int) [(0, 9, 12, 13)]) (yX0_press, wsW_ yX0_press cX0_press 4 (Option.some Jvm.ClassFile.FieldType.int) [(0, 9, 12, 13), (0, 9, 15, 15)])) (yX0_back, wsW_ yX0_back cX0_back 4 (Option.some Jvm.ClassFile.FieldType.int) [(0, 9, 12, 13), (0, 9, 15, 15)]))))) (cond (Nat.ble 180 k) (cond (Nat.ble 187 k) (cond (Nat.ble 190 k) (cond (Nat.ble 192 k) (cond (Nat.ble 193 k) (yX0_runTo, wsW_ yX0_runTo cX0_runTo 5 (Option.some Jvm.ClassFile.FieldType.int) [(0, 10, 13, 13), (0, 10, 17, 15)]) (yX0_step, wsW_ yX0_step cX0_step 4 (Option.some Jvm.ClassFile.FieldType.int) [(0, 9, 12, 13), (0, 9, 15, 15)])) (cond (Nat.ble 191 k) (yX0_format, wsW_ yX0_format cX0_format 3 (Option.some Jvm.ClassFile.FieldType.int) [(0, 8, 11, 15)]) (yX0_crash, wsW_ yX0_crash cX0_crash 3 (Option.some Jvm.ClassFile.FieldType.int) [(0, 8, 11, 15)]))) (cond (Nat.ble 188 k) (cond (Nat.ble 189 k) (yX0_start, wsW_ yX0_start cX0_start 3 (Option.some Jvm.ClassFile.FieldType.int) [(0, 8, 11, 15)]) (yX0_image, wsW_ yX0_image cX0_image 4 (Option.some Jvm.ClassFile.FieldType.int) [(0, 9, 12, 13), (0, 9, 15, 15)])) (yX0_assemble, wsW_ yX0_assemble cX0_assemble 3 (Option.some Jvm.ClassFile.FieldType.int) [(0, 8, 11, 15)]))) (cond (Nat.ble 183 k) (cond (Nat.ble 185 k) (cond (Nat.ble 186 k) (yX0_use, wsW_ yX0_use cX0_use 8 (Option.some Jvm.ClassFile.FieldType.int) [(0, 16, 19, 13), (0, 16, 23, 15)]) (yX0_endMacro, wsW_ yX0_endMacro cX0_endMacro 3 (Option.some Jvm.ClassFile.FieldType.int) [(0, 8, 11, 15)])) (cond (Nat.ble 184 k) (yX0_macro, wsW_ yX0_macro cX0_macro 4 (Option.some Jvm.ClassFile.FieldType.int) [(0, 9, 12, 13), (0, 9, 15, 15)]) (yX0_vector, wsW_ yX0_vector cX0_vector 6 (Option.some Jvm.ClassFile.FieldType.int) [(0, 12, 15, 13), (0, 12, 19, 15)]))) (cond (Nat.ble 181 k) (cond (Nat.ble 182 k) (yX0_space, wsW_ yX0_space cX0_space 4 (Option.some Jvm.ClassFile.FieldType.int) [(0, 9, 12, 13), (0, 9, 15, 15)]) (yX0_word, wsW_ yX0_word cX0_word 5 (Option.some Jvm.ClassFile.FieldType.int) [(0, 10, 13, 13), (0, 10, 17, 15)])) (yX0_code, wsW_ yX0_code cX0_code 8 (Option.some Jvm.ClassFile.FieldType.int) [(0, 16, 19, 13), (0, 16, 23, 15)])))) (cond (Nat.ble 171 k) (cond (Nat.ble 175 k) (cond (Nat.ble 178 k) (cond (Nat.ble 179 k) (yX0_label, wsW_ yX0_label cX0_label 4 (Option.some Jvm.ClassFile.FieldType.int) [(0, 9, 12, 13), (0, 9, 15, 15)]) (yX0_section, wsW_ yX0_section cX0_section 4 (Option.some Jvm.ClassFile.FieldType.int) [(0, 9, 12, 13), (0, 9, 15, 15)])) (cond (Nat.ble 176 k) (yJ9_init, ws_ yJ9_init cJ9_init 2 (Option.none : Option Jvm.ClassFile.FieldType)) (yJ8_init_4, ws_ yJ8_init_4 cJ8_init_4 3 (Option.none : Option Jvm.ClassFile.FieldType)))) (cond (Nat.ble 172 k) (cond (Nat.ble 174 k) (yJ8_init_3, ws_ yJ8_init_3 cJ8_init_3 1 (Option.none : Option Jvm.ClassFile.FieldType)) (yJ8_init, ws_ yJ8_init cJ8_init 2 (Option.none : Option Jvm.ClassFile.FieldType))) (yJ7_init_4, ws_ yJ7_init_4 cJ7_init_4 3 (Option.none : Option Jvm.ClassFile.FieldType)))) (cond (Nat.ble 162 k) (cond (Nat.ble 168 k) (cond (Nat.ble 170 k) (yJ7_init_3, ws_ yJ7_init_3 cJ7_init_3 1 (Option.none : Option Jvm.ClassFile.FieldType)) (yJ7_init, ws_ yJ7_init cJ7_init 2 (Option.none : Option Jvm.ClassFile.FieldType))) (cond (Nat.ble 167 k) (yJ6_init_4, ws_ yJ6_init_4 cJ6_init_4 3 (Option.none : Option Jvm.ClassFile.FieldType)) (yJ6_init_2, ws_ yJ6_init_2 cJ6_init_2 2 (Option.none : Option Jvm.ClassFile.FieldType)))) (cond (Nat.ble 159 k) (cond (Nat.ble 160 k) (yJ5_descendingIterator, ws_ yJ5_descendingIterator cJ5_descendingIterator 1 (Option.some (Jvm.ClassFile.FieldType.object "java/util/Iterato\x72"))) (yJ5_peekLast, ws_ yJ5_peekLast cJ5_peekLast 2 (Option.some (Jvm.ClassFile.FieldType.object "java/lang/Object")))) (yJ5_pollLast, ws_ yJ5_pollLast cJ5_pollLast 4 (Option.some (Jvm.ClassFile.FieldType.object "java/lang/Object"))))))))) (cond (Nat.ble 85 k) (cond (Nat.ble 127 k) (cond (Nat.ble 144 k) (cond (Nat.ble 151 k) (cond (Nat.ble 154 k) (cond (Nat.ble 156 k) (cond (Nat.ble 157 k) (yJ5_removeLast, ws_ yJ5_removeLast cJ5_removeLast 2 (Option.some (Jvm.ClassFile.FieldType.object "java/lang/Object"))) (yJ5_isEmpty, ws_ yJ5_isEmpty cJ5_isEmpty 1 (Option.some Jvm.ClassFile.FieldType.boolean))) (cond (Nat.ble 155 k) (yJ5_elementAt, ws_ yJ5_elementAt cJ5_elementAt 2 (Option.some (Jvm.ClassFile.FieldType.object "java/lang/Object"))) (yJ5_pollFirst, ws_ yJ5_pollFirst cJ5_pollFirst 4 (Option.some (Jvm.ClassFile.FieldType.object "java/lang/Object"))))) (cond (Nat.ble 152 k) (cond (Nat.ble 153 k) (yJ5_removeFirst, ws_ yJ5_removeFirst cJ5_removeFirst 2 (Option.some (Jvm.ClassFile.FieldType.object "java/lang/Object"))) (yJ5_newCapacity, ws_ yJ5_newCapacity cJ5_newCapacity 5 (Option.some Jvm.ClassFile.FieldType.int))) (yJ5_grow, ws_ yJ5_grow cJ5_grow 9 (Option.none : Option Jvm.ClassFile.FieldType)))) (cond (Nat.ble 147 k) (cond (Nat.ble 149 k) (cond (Nat.ble 150 k) (yJ5_inc, ws_ yJ5_inc cJ5_inc 2 (Option.some Jvm.ClassFile.FieldType.int)) (yJ5_addLast, ws_ yJ5_addLast cJ5_addLast 3 (Option.none : Option Jvm.ClassFile.FieldType))) (cond (Nat.ble 148 k) (yJ5_circularClear, ws_ yJ5_circularClear cJ5_circularClear 4 (Option.none : Option Jvm.ClassFile.FieldType)) (yJ5_clear, ws_ yJ5_clear cJ5_clear 1 (Option.none : Option Jvm.ClassFile.FieldType)))) (cond (Nat.ble 145 k) (cond (Nat.ble 146 k) (yJ5_dec, ws_ yJ5_dec cJ5_dec 2 (Option.some Jvm.ClassFile.FieldType.int)) (yJ5_nonNullElementAt, ws_ yJ5_nonNullElementAt cJ5_nonNullElementAt 3 (Option.some (Jvm.ClassFile.FieldType.object "java/lang/Object")))) (yJ5_sub, ws_ yJ5_sub cJ5_sub 3 (Option.some Jvm.ClassFile.FieldType.int))))) (cond (Nat.ble 136 k) (cond (Nat.ble 140 k) (cond (Nat.ble 142 k) (cond (Nat.ble 143 k) (yJ5_size, ws_ yJ5_size cJ5_size 1 (Option.some Jvm.ClassFile.FieldType.int)) (yJ5_init, ws_ yJ5_init cJ5_init 1 (Option.none : Option Jvm.ClassFile.FieldType))) (cond (Nat.ble 141 k) (yJ4_unlinkFirst, ws_ yJ4_unlinkFirst cJ4_unlinkFirst 4 (Option.some (Jvm.ClassFile.FieldType.object "java/lang/Object"))) (yJ4_removeFirst, ws_ yJ4_removeFirst cJ4_removeFirst 2 (Option.some (Jvm.ClassFile.FieldType.object "java/lang/Object"))))) (cond (Nat.ble 138 k) (cond (Nat.ble 139 k) (yJ4_addLast, ws_ yJ4_addLast cJ4_addLast 2 (Option.none : Option Jvm.ClassFile.FieldType)) (yJ4_linkBefore, ws_ yJ4_linkBefore cJ4_linkBefore 5 (Option.none : Option Jvm.ClassFile.FieldType))) (yJ4_isPositionIndex, ws_ yJ4_isPositionIndex cJ4_isPositionIndex 2 (Option.some Jvm.ClassFile.FieldType.boolean)))) (cond (Nat.ble 131 k) (cond (Nat.ble 134 k) (cond (Nat.ble 135 k) (yJ4_checkPositionIndex, ws_ yJ4_checkPositionIndex cJ4_checkPositionIndex 2 (Option.none : Option Jvm.ClassFile.FieldType)) (yJ4_listIterator, ws_ yJ4_listIterator cJ4_listIterator 2 (Option.some (Jvm.ClassFile.FieldType.object "java/util/ListIterato\x72")))) (cond (Nat.ble 133 k) (yJ4_linkLast, ws_ yJ4_linkLast cJ4_linkLast 4 (Option.none : Option Jvm.ClassFile.FieldType)) (yJ4_node, ws_ yJ4_node cJ4_node 4 (Option.some (Jvm.ClassFile.FieldType.object "java/util/LinkedList$Node"))))) (cond (Nat.ble 128 k) (cond (Nat.ble 129 k) (yJ4_isElementIndex, ws_ yJ4_isElementIndex cJ4_isElementIndex 2 (Option.some Jvm.ClassFile.FieldType.boolean)) (yJ4_checkElementIndex, ws_ yJ4_checkElementIndex cJ4_checkElementIndex 2 (Option.none : Option Jvm.ClassFile.FieldType))) (yJ4_get, ws_ yJ4_get cJ4_get 2 (Option.some (Jvm.ClassFile.FieldType.object "java/lang/Object"))))))) (cond (Nat.ble 102 k) (cond (Nat.ble 109 k) (cond (Nat.ble 112 k) (cond (Nat.ble 125 k) (cond (Nat.ble 126 k) (yJ4_clear, ws_ yJ4_clear cJ4_clear 3 (Option.none : Option Jvm.ClassFile.FieldType)) (yJ4_size, ws_ yJ4_size cJ4_size 1 (Option.some Jvm.ClassFile.FieldType.int))) (cond (Nat.ble 124 k) (yJ4_init, ws_ yJ4_init cJ4_init 1 (Option.none : Option Jvm.ClassFile.FieldType)) (yJ32_checkForComodification, ws_ yJ32_checkForComodification cJ32_checkForComodification 1 (Option.none : Option Jvm.ClassFile.FieldType)))) (cond (Nat.ble 110 k) (cond (Nat.ble 111 k) (yJ32_next, ws_ yJ32_next cJ32_next 3 (Option.some (Jvm.ClassFile.FieldType.object "java/lang/Object"))) (yJ32_hasNext, ws_ yJ32_hasNext cJ32_hasNext 1 (Option.some Jvm.ClassFile.FieldType.boolean))) (yJ32_init, ws_ yJ32_init cJ32_init 2 (Option.none : Option Jvm.ClassFile.FieldType)))) (cond (Nat.ble 105 k) (cond (Nat.ble 107 k) (cond (Nat.ble 108 k) (yJ31_set_2, ws_ yJ31_set_2 cJ31_set_2 3 (Option.none : Option Jvm.ClassFile.FieldType)) (yJ31_get, ws_ yJ31_get cJ31_get 3 (Option.some Jvm.ClassFile.FieldType.boolean))) (cond (Nat.ble 106 k) (yJ31_checkInvariants, ws_ yJ31_checkInvariants cJ31_checkInvariants 1 (Option.none : Option Jvm.ClassFile.FieldType)) (yJ31_ensureCapacity, ws_ yJ31_ensureCapacity cJ31_ensureCapacity 3 (Option.none : Option Jvm.ClassFile.FieldType)))) (cond (Nat.ble 103 k) (cond (Nat.ble 104 k) (yJ31_expandTo, ws_ yJ31_expandTo cJ31_expandTo 3 (Option.none : Option Jvm.ClassFile.FieldType)) (yJ31_checkRange, ws_ yJ31_checkRange cJ31_checkRange 2 (Option.none : Option Jvm.ClassFile.FieldType))) (yJ31_set, ws_ yJ31_set cJ31_set 10 (Option.none : Option Jvm.ClassFile.FieldType))))) (cond (Nat.ble 93 k) (cond (Nat.ble 96 k) (cond (Nat.ble 100 k) (cond (Nat.ble 101 k) (yJ31_wordIndex, ws_ yJ31_wordIndex cJ31_wordIndex 1 (Option.some Jvm.ClassFile.FieldType.int)) (yJ31_initWords, ws_ yJ31_initWords cJ31_initWords 2 (Option.none : Option Jvm.ClassFile.FieldType))) (cond (Nat.ble 99 k) (yJ31_init, ws_ yJ31_init cJ31_init 2 (Option.none : Option Jvm.ClassFile.FieldType)) (yJ3_init, ws_ yJ3_init cJ3_init 1 (Option.none : Option Jvm.ClassFile.FieldType)))) (cond (Nat.ble 94 k) (cond (Nat.ble 95 k) (yJ29_init, ws_ yJ29_init cJ29_init 2 (Option.none : Option Jvm.ClassFile.FieldType)) (yJ29_next, ws_ yJ29_next cJ29_next 3 (Option.some (Jvm.ClassFile.FieldType.object "java/lang/Object")))) (yJ28_init, ws_ yJ28_init cJ28_init 2 (Option.none : Option Jvm.ClassFile.FieldType)))) (cond (Nat.ble 88 k) (cond (Nat.ble 90 k) (cond (Nat.ble 92 k) (yJ28_hasNext, ws_ yJ28_hasNext cJ28_hasNext 1 (Option.some Jvm.ClassFile.FieldType.boolean)) (yJ26_add, ws_ yJ26_add cJ26_add 2 (Option.none : Option Jvm.ClassFile.FieldType))) (cond (Nat.ble 89 k) (yJ26_previous, ws_ yJ26_previous cJ26_previous 1 (Option.some (Jvm.ClassFile.FieldType.object "java/lang/Object"))) (yJ26_hasPrevious, ws_ yJ26_hasPrevious cJ26_hasPrevious 1 (Option.some Jvm.ClassFile.FieldType.boolean)))) (cond (Nat.ble 86 k) (cond (Nat.ble 87 k) (yJ26_checkForComodification, ws_ yJ26_checkForComodification cJ26_checkForComodification 1 (Option.none : Option Jvm.ClassFile.FieldType)) (yJ26_next, ws_ yJ26_next cJ26_next 1 (Option.some (Jvm.ClassFile.FieldType.object "java/lang/Object")))) (yJ26_hasNext, ws_ yJ26_hasNext cJ26_hasNext 1 (Option.some Jvm.ClassFile.FieldType.boolean))))))) (cond (Nat.ble 35 k) (cond (Nat.ble 66 k) (cond (Nat.ble 77 k) (cond (Nat.ble 80 k) (cond (Nat.ble 83 k) (cond (Nat.ble 84 k) (yJ26_init, ws_ yJ26_init cJ26_init 3 (Option.none : Option Jvm.ClassFile.FieldType)) (yJ25_init_3, ws_ yJ25_init_3 cJ25_init_3 2 (Option.none : Option Jvm.ClassFile.FieldType))) (cond (Nat.ble 82 k) (yJ25_init_2, ws_ yJ25_init_2 cJ25_init_2 1 (Option.none : Option Jvm.ClassFile.FieldType)) (yJ24_init, ws_ yJ24_init cJ24_init 2 (Option.none : Option Jvm.ClassFile.FieldType)))) (cond (Nat.ble 78 k) (cond (Nat.ble 79 k) (yJ23_checkIndex, ws_ yJ23_checkIndex cJ23_checkIndex 2 (Option.some Jvm.ClassFile.FieldType.int)) (yJ22_intValue, ws_ yJ22_intValue cJ22_intValue 1 (Option.some Jvm.ClassFile.FieldType.int))) (yJ22_init, ws_ yJ22_init cJ22_init 2 (Option.none : Option Jvm.ClassFile.FieldType)))) (cond (Nat.ble 73 k) (cond (Nat.ble 75 k) (cond (Nat.ble 76 k) (yJ22_valueOf, ws_ yJ22_valueOf cJ22_valueOf 1 (Option.some (Jvm.ClassFile.FieldType.object "java/lang/Intege\x72"))) (yJ22_getChars, ws_ yJ22_getChars cJ22_getChars 7 (Option.some Jvm.ClassFile.FieldType.int))) (cond (Nat.ble 74 k) (yJ22_stringSize, ws_ yJ22_stringSize cJ22_stringSize 4 (Option.some Jvm.ClassFile.FieldType.int)) (yJ21_init, ws_ yJ21_init cJ21_init 1 (Option.none : Option Jvm.ClassFile.FieldType)))) (cond (Nat.ble 67 k) (cond (Nat.ble 72 k) (yJ20_inflate, ws_ yJ20_inflate cJ20_inflate 5 (Option.none : Option Jvm.ClassFile.FieldType)) (yJ2_iterator, ws_ yJ2_iterator cJ2_iterator 1 (Option.some (Jvm.ClassFile.FieldType.object "java/util/Iterato\x72")))) (yJ2_grow_2, ws_ yJ2_grow_2 cJ2_grow_2 4 (Option.some (Jvm.ClassFile.FieldType.array (Jvm.ClassFile.FieldType.object "java/lang/Object"))))))) (cond (Nat.ble 59 k) (cond (Nat.ble 62 k) (cond (Nat.ble 64 k) (cond (Nat.ble 65 k) (yJ2_grow, ws_ yJ2_grow cJ2_grow 1 (Option.some (Jvm.ClassFile.FieldType.array (Jvm.ClassFile.FieldType.object "java/lang/Object")))) (yJ2_add_2, ws_ yJ2_add_2 cJ2_add_2 4 (Option.none : Option Jvm.ClassFile.FieldType))) (cond (Nat.ble 63 k) (yJ2_add, ws_ yJ2_add cJ2_add 2 (Option.some Jvm.ClassFile.FieldType.boolean)) (yJ2_elementData, ws_ yJ2_elementData cJ2_elementData 2 (Option.some (Jvm.ClassFile.FieldType.object "java/lang/Object"))))) (cond (Nat.ble 60 k) (cond (Nat.ble 61 k) (yJ2_get, ws_ yJ2_get cJ2_get 2 (Option.some (Jvm.ClassFile.FieldType.object "java/lang/Object"))) (yJ2_clear, ws_ yJ2_clear cJ2_clear 4 (Option.none : Option Jvm.ClassFile.FieldType))) (yJ2_size, ws_ yJ2_size cJ2_size 1 (Option.some Jvm.ClassFile.FieldType.int)))) (cond (Nat.ble 39 k) (cond (Nat.ble 57 k) (cond (Nat.ble 58 k) (yJ2_init, ws_ yJ2_init cJ2_init 1 (Option.none : Option Jvm.ClassFile.FieldType)) (yJ19_checkIndex, ws_ yJ19_checkIndex cJ19_checkIndex 3 (Option.some Jvm.ClassFile.FieldType.int))) (cond (Nat.ble 40 k) (yJ17_init_2, ws_ yJ17_init_2 cJ17_init_2 5 (Option.none : Option Jvm.ClassFile.FieldType)) (yJ17_init, ws_ yJ17_init cJ17_init 2 (Option.none : Option Jvm.ClassFile.FieldType)))) (cond (Nat.ble 36 k) (cond (Nat.ble 38 k) (yJ17_getBytes, ws_ yJ17_getBytes cJ17_getBytes 4 (Option.none : Option Jvm.ClassFile.FieldType)) (yJ17_coder, ws_ yJ17_coder cJ17_coder 1 (Option.some Jvm.ClassFile.FieldType.byte))) (yJ17_length, ws_ yJ17_length cJ17_length 1 (Option.some Jvm.ClassFile.FieldType.int)))))) (cond (Nat.ble 18 k) (cond (Nat.ble 27 k) (cond (Nat.ble 30 k) (cond (Nat.ble 32 k) (cond (Nat.ble 33 k) (yJ16_length, ws_ yJ16_length cJ16_length 1 (Option.some Jvm.ClassFile.FieldType.int)) (yJ16_toString, ws_ yJ16_toString cJ16_toString 1 (Option.some (Jvm.ClassFile.FieldType.object "java/lang/String")))) (cond (Nat.ble 31 k) (yJ16_append_2, ws_ yJ16_append_2 cJ16_append_2 2 (Option.some (Jvm.ClassFile.FieldType.object "java/lang/StringBuilde\x72"))) (yJ16_append, ws_ yJ16_append cJ16_append 2 (Option.some (Jvm.ClassFile.FieldType.object "java/lang/StringBuilde\x72"))))) (cond (Nat.ble 28 k) (cond (Nat.ble 29 k) (yJ16_init, ws_ yJ16_init cJ16_init 1 (Option.none : Option Jvm.ClassFile.FieldType)) (yJ15_length, ws_ yJ15_length cJ15_length 1 (Option.some Jvm.ClassFile.FieldType.int))) (yJ15_getValue, ws_ yJ15_getValue cJ15_getValue 1 (Option.some (Jvm.ClassFile.FieldType.array Jvm.ClassFile.FieldType.byte))))) (cond (Nat.ble 22 k) (cond (Nat.ble 24 k) (cond (Nat.ble 26 k) (yJ15_append_2, ws_ yJ15_append_2 cJ15_append_2 4 (Option.some (Jvm.ClassFile.FieldType.object "java/lang/AbstractStringBuilde\x72"))) (yJ15_inflateIfNeededFor, ws_ yJ15_inflateIfNeededFor cJ15_inflateIfNeededFor 2 (Option.none : Option Jvm.ClassFile.FieldType))) (cond (Nat.ble 23 k) (yJ15_putStringAt, ws_ yJ15_putStringAt cJ15_putStringAt 3 (Option.none : Option Jvm.ClassFile.FieldType)) (yJ15_isLatin1, ws_ yJ15_isLatin1 cJ15_isLatin1 1 (Option.some Jvm.ClassFile.FieldType.boolean)))) (cond (Nat.ble 20 k) (cond (Nat.ble 21 k) (yJ15_newCapacity, ws_ yJ15_newCapacity cJ15_newCapacity 6 (Option.some Jvm.ClassFile.FieldType.int)) (yJ15_ensureCapacityInternal, ws_ yJ15_ensureCapacityInternal cJ15_ensureCapacityInternal 3 (Option.none : Option Jvm.ClassFile.FieldType))) (yJ15_append, ws_ yJ15_append cJ15_append 3 (Option.some (Jvm.ClassFile.FieldType.object "java/lang/AbstractStringBuilde\x72")))))) (cond (Nat.ble 11 k) (cond (Nat.ble 14 k) (cond (Nat.ble 16 k) (cond (Nat.ble 17 k) (yJ15_init, ws_ yJ15_init cJ15_init 2 (Option.none : Option Jvm.ClassFile.FieldType)) (yJ14_init, ws_ yJ14_init cJ14_init 4 (Option.none : Option Jvm.ClassFile.FieldType))) (cond (Nat.ble 15 k) (yJ13_copyOf_4, ws_ yJ13_copyOf_4 cJ13_copyOf_4 3 (Option.some (Jvm.ClassFile.FieldType.array Jvm.ClassFile.FieldType.long))) (yJ13_copyOf_3, ws_ yJ13_copyOf_3 cJ13_copyOf_3 4 (Option.some (Jvm.ClassFile.FieldType.array (Jvm.ClassFile.FieldType.object "java/lang/Object")))))) (cond (Nat.ble 12 k) (cond (Nat.ble 13 k) (yJ13_copyOf_2, ws_ yJ13_copyOf_2 cJ13_copyOf_2 2 (Option.some (Jvm.ClassFile.FieldType.array (Jvm.ClassFile.FieldType.object "java/lang/Object")))) (yJ13_checkLength, ws_ yJ13_checkLength cJ13_checkLength 2 (Option.none : Option Jvm.ClassFile.FieldType))) (yJ13_copyOfRangeByte, ws_ yJ13_copyOfRangeByte cJ13_copyOfRangeByte 5 (Option.some (Jvm.ClassFile.FieldType.array Jvm.ClassFile.FieldType.byte))))) (cond (Nat.ble 4 k) (cond (Nat.ble 9 k) (cond (Nat.ble 10 k) (yJ13_copyOfRange, ws_ yJ13_copyOfRange cJ13_copyOfRange 3 (Option.some (Jvm.ClassFile.FieldType.array Jvm.ClassFile.FieldType.byte))) (yJ13_copyOf, ws_ yJ13_copyOf cJ13_copyOf 3 (Option.some (Jvm.ClassFile.FieldType.array Jvm.ClassFile.FieldType.byte)))) (cond (Nat.ble 5 k) (yJ11_newLength, ws_ yJ11_newLength cJ11_newLength 4 (Option.some Jvm.ClassFile.FieldType.int)) (yJ10_init_2, ws_ yJ10_init_2 cJ10_init_2 3 (Option.none : Option Jvm.ClassFile.FieldType)))) (cond (Nat.ble 1 k) (cond (Nat.ble 3 k) (yJ10_init, ws_ yJ10_init cJ10_init 2 (Option.none : Option Jvm.ClassFile.FieldType)) (yJ1_init, ws_ yJ1_init cJ1_init 1 (Option.none : Option Jvm.ClassFile.FieldType))) (yJ0_init, ws_ yJ0_init cJ0_init 1 (Option.none : Option Jvm.ClassFile.FieldType))))))))))
theorem y_J0_init : ax_Ym 0 = (yJ0_init, ws_ yJ0_init cJ0_init 1 (Option.none : Option Jvm.ClassFile.FieldType)) := rfl
theorem y_J1_init : ax_Ym 1 = (yJ1_init, ws_ yJ1_init cJ1_init 1 (Option.none : Option Jvm.ClassFile.FieldType)) := rfl
theorem y_J10_init : ax_Ym 3 = (yJ10_init, ws_ yJ10_init cJ10_init 2 (Option.none : Option Jvm.ClassFile.FieldType)) := rfl
theorem y_J10_init_2 : ax_Ym 4 = (yJ10_init_2, ws_ yJ10_init_2 cJ10_init_2 3 (Option.none : Option Jvm.ClassFile.FieldType)) := rfl
theorem y_J11_newLength : ax_Ym 5 = (yJ11_newLength, ws_ yJ11_newLength cJ11_newLength 4 (Option.some Jvm.ClassFile.FieldType.int)) := rfl
theorem y_J13_copyOf : ax_Ym 9 = (yJ13_copyOf, ws_ yJ13_copyOf cJ13_copyOf 3 (Option.some (Jvm.ClassFile.FieldType.array Jvm.ClassFile.FieldType.byte))) := rfl
theorem y_J13_copyOfRange : ax_Ym 10 = (yJ13_copyOfRange, ws_ yJ13_copyOfRange cJ13_copyOfRange 3 (Option.some (Jvm.ClassFile.FieldType.array Jvm.ClassFile.FieldType.byte))) := rfl
theorem y_J13_copyOfRangeByte : ax_Ym 11 = (yJ13_copyOfRangeByte, ws_ yJ13_copyOfRangeByte cJ13_copyOfRangeByte 5 (Option.some (Jvm.ClassFile.FieldType.array Jvm.ClassFile.FieldType.byte))) := rfl
theorem y_J13_checkLength : ax_Ym 12 = (yJ13_checkLength, ws_ yJ13_checkLength cJ13_checkLength 2 (Option.none : Option Jvm.ClassFile.FieldType)) := rfl
theorem y_J13_copyOf_2 : ax_Ym 13 = (yJ13_copyOf_2, ws_ yJ13_copyOf_2 cJ13_copyOf_2 2 (Option.some (Jvm.ClassFile.FieldType.array (Jvm.ClassFile.FieldType.object "java/lang/Object")))) := rfl
theorem y_J13_copyOf_3 : ax_Ym 14 = (yJ13_copyOf_3, ws_ yJ13_copyOf_3 cJ13_copyOf_3 4 (Option.some (Jvm.ClassFile.FieldType.array (Jvm.ClassFile.FieldType.object "java/lang/Object")))) := rfl
theorem y_J13_copyOf_4 : ax_Ym 15 = (yJ13_copyOf_4, ws_ yJ13_copyOf_4 cJ13_copyOf_4 3 (Option.some (Jvm.ClassFile.FieldType.array Jvm.ClassFile.FieldType.long))) := rfl
theorem y_J14_init : ax_Ym 16 = (yJ14_init, ws_ yJ14_init cJ14_init 4 (Option.none : Option Jvm.ClassFile.FieldType)) := rfl
theorem y_J15_init : ax_Ym 17 = (yJ15_init, ws_ yJ15_init cJ15_init 2 (Option.none : Option Jvm.ClassFile.FieldType)) := rfl
theorem y_J15_append : ax_Ym 18 = (yJ15_append, ws_ yJ15_append cJ15_append 3 (Option.some (Jvm.ClassFile.FieldType.object "java/lang/AbstractStringBuilde\x72"))) := rfl
theorem y_J15_ensureCapacityInternal : ax_Ym 20 = (yJ15_ensureCapacityInternal, ws_ yJ15_ensureCapacityInternal cJ15_ensureCapacityInternal 3 (Option.none : Option Jvm.ClassFile.FieldType)) := rfl
theorem y_J15_newCapacity : ax_Ym 21 = (yJ15_newCapacity, ws_ yJ15_newCapacity cJ15_newCapacity 6 (Option.some Jvm.ClassFile.FieldType.int)) := rfl
theorem y_J15_isLatin1 : ax_Ym 22 = (yJ15_isLatin1, ws_ yJ15_isLatin1 cJ15_isLatin1 1 (Option.some Jvm.ClassFile.FieldType.boolean)) := rfl
theorem y_J15_putStringAt : ax_Ym 23 = (yJ15_putStringAt, ws_ yJ15_putStringAt cJ15_putStringAt 3 (Option.none : Option Jvm.ClassFile.FieldType)) := rfl
theorem y_J15_inflateIfNeededFor : ax_Ym 24 = (yJ15_inflateIfNeededFor, ws_ yJ15_inflateIfNeededFor cJ15_inflateIfNeededFor 2 (Option.none : Option Jvm.ClassFile.FieldType)) := rfl
theorem y_J15_append_2 : ax_Ym 26 = (yJ15_append_2, ws_ yJ15_append_2 cJ15_append_2 4 (Option.some (Jvm.ClassFile.FieldType.object "java/lang/AbstractStringBuilde\x72"))) := rfl
theorem y_J15_getValue : ax_Ym 27 = (yJ15_getValue, ws_ yJ15_getValue cJ15_getValue 1 (Option.some (Jvm.ClassFile.FieldType.array Jvm.ClassFile.FieldType.byte))) := rfl
theorem y_J15_length : ax_Ym 28 = (yJ15_length, ws_ yJ15_length cJ15_length 1 (Option.some Jvm.ClassFile.FieldType.int)) := rfl
theorem y_J16_init : ax_Ym 29 = (yJ16_init, ws_ yJ16_init cJ16_init 1 (Option.none : Option Jvm.ClassFile.FieldType)) := rfl
theorem y_J16_append : ax_Ym 30 = (yJ16_append, ws_ yJ16_append cJ16_append 2 (Option.some (Jvm.ClassFile.FieldType.object "java/lang/StringBuilde\x72"))) := rfl
theorem y_J16_append_2 : ax_Ym 31 = (yJ16_append_2, ws_ yJ16_append_2 cJ16_append_2 2 (Option.some (Jvm.ClassFile.FieldType.object "java/lang/StringBuilde\x72"))) := rfl
theorem y_J16_toString : ax_Ym 32 = (yJ16_toString, ws_ yJ16_toString cJ16_toString 1 (Option.some (Jvm.ClassFile.FieldType.object "java/lang/String"))) := rfl
theorem y_J16_length : ax_Ym 33 = (yJ16_length, ws_ yJ16_length cJ16_length 1 (Option.some Jvm.ClassFile.FieldType.int)) := rfl
theorem y_J17_length : ax_Ym 35 = (yJ17_length, ws_ yJ17_length cJ17_length 1 (Option.some Jvm.ClassFile.FieldType.int)) := rfl
theorem y_J17_coder : ax_Ym 36 = (yJ17_coder, ws_ yJ17_coder cJ17_coder 1 (Option.some Jvm.ClassFile.FieldType.byte)) := rfl
theorem y_J17_getBytes : ax_Ym 38 = (yJ17_getBytes, ws_ yJ17_getBytes cJ17_getBytes 4 (Option.none : Option Jvm.ClassFile.FieldType)) := rfl
theorem y_J17_init : ax_Ym 39 = (yJ17_init, ws_ yJ17_init cJ17_init 2 (Option.none : Option Jvm.ClassFile.FieldType)) := rfl
theorem y_J17_init_2 : ax_Ym 40 = (yJ17_init_2, ws_ yJ17_init_2 cJ17_init_2 5 (Option.none : Option Jvm.ClassFile.FieldType)) := rfl
theorem y_J19_checkIndex : ax_Ym 57 = (yJ19_checkIndex, ws_ yJ19_checkIndex cJ19_checkIndex 3 (Option.some Jvm.ClassFile.FieldType.int)) := rfl
theorem y_J2_init : ax_Ym 58 = (yJ2_init, ws_ yJ2_init cJ2_init 1 (Option.none : Option Jvm.ClassFile.FieldType)) := rfl
theorem y_J2_size : ax_Ym 59 = (yJ2_size, ws_ yJ2_size cJ2_size 1 (Option.some Jvm.ClassFile.FieldType.int)) := rfl
theorem y_J2_clear : ax_Ym 60 = (yJ2_clear, ws_ yJ2_clear cJ2_clear 4 (Option.none : Option Jvm.ClassFile.FieldType)) := rfl
theorem y_J2_get : ax_Ym 61 = (yJ2_get, ws_ yJ2_get cJ2_get 2 (Option.some (Jvm.ClassFile.FieldType.object "java/lang/Object"))) := rfl
theorem y_J2_elementData : ax_Ym 62 = (yJ2_elementData, ws_ yJ2_elementData cJ2_elementData 2 (Option.some (Jvm.ClassFile.FieldType.object "java/lang/Object"))) := rfl
theorem y_J2_add : ax_Ym 63 = (yJ2_add, ws_ yJ2_add cJ2_add 2 (Option.some Jvm.ClassFile.FieldType.boolean)) := rfl
theorem y_J2_add_2 : ax_Ym 64 = (yJ2_add_2, ws_ yJ2_add_2 cJ2_add_2 4 (Option.none : Option Jvm.ClassFile.FieldType)) := rfl
theorem y_J2_grow : ax_Ym 65 = (yJ2_grow, ws_ yJ2_grow cJ2_grow 1 (Option.some (Jvm.ClassFile.FieldType.array (Jvm.ClassFile.FieldType.object "java/lang/Object")))) := rfl
theorem y_J2_grow_2 : ax_Ym 66 = (yJ2_grow_2, ws_ yJ2_grow_2 cJ2_grow_2 4 (Option.some (Jvm.ClassFile.FieldType.array (Jvm.ClassFile.FieldType.object "java/lang/Object")))) := rfl
theorem y_J2_iterator : ax_Ym 67 = (yJ2_iterator, ws_ yJ2_iterator cJ2_iterator 1 (Option.some (Jvm.ClassFile.FieldType.object "java/util/Iterato\x72"))) := rfl
theorem y_J20_inflate : ax_Ym 72 = (yJ20_inflate, ws_ yJ20_inflate cJ20_inflate 5 (Option.none : Option Jvm.ClassFile.FieldType)) := rfl
theorem y_J21_init : ax_Ym 73 = (yJ21_init, ws_ yJ21_init cJ21_init 1 (Option.none : Option Jvm.ClassFile.FieldType)) := rfl
theorem y_J22_stringSize : ax_Ym 74 = (yJ22_stringSize, ws_ yJ22_stringSize cJ22_stringSize 4 (Option.some Jvm.ClassFile.FieldType.int)) := rfl
theorem y_J22_getChars : ax_Ym 75 = (yJ22_getChars, ws_ yJ22_getChars cJ22_getChars 7 (Option.some Jvm.ClassFile.FieldType.int)) := rfl
theorem y_J22_valueOf : ax_Ym 76 = (yJ22_valueOf, ws_ yJ22_valueOf cJ22_valueOf 1 (Option.some (Jvm.ClassFile.FieldType.object "java/lang/Intege\x72"))) := rfl
theorem y_J22_init : ax_Ym 77 = (yJ22_init, ws_ yJ22_init cJ22_init 2 (Option.none : Option Jvm.ClassFile.FieldType)) := rfl
theorem y_J22_intValue : ax_Ym 78 = (yJ22_intValue, ws_ yJ22_intValue cJ22_intValue 1 (Option.some Jvm.ClassFile.FieldType.int)) := rfl
theorem y_J23_checkIndex : ax_Ym 79 = (yJ23_checkIndex, ws_ yJ23_checkIndex cJ23_checkIndex 2 (Option.some Jvm.ClassFile.FieldType.int)) := rfl
theorem y_J24_init : ax_Ym 80 = (yJ24_init, ws_ yJ24_init cJ24_init 2 (Option.none : Option Jvm.ClassFile.FieldType)) := rfl
theorem y_J25_init_2 : ax_Ym 82 = (yJ25_init_2, ws_ yJ25_init_2 cJ25_init_2 1 (Option.none : Option Jvm.ClassFile.FieldType)) := rfl
theorem y_J25_init_3 : ax_Ym 83 = (yJ25_init_3, ws_ yJ25_init_3 cJ25_init_3 2 (Option.none : Option Jvm.ClassFile.FieldType)) := rfl
theorem y_J26_init : ax_Ym 84 = (yJ26_init, ws_ yJ26_init cJ26_init 3 (Option.none : Option Jvm.ClassFile.FieldType)) := rfl
theorem y_J26_hasNext : ax_Ym 85 = (yJ26_hasNext, ws_ yJ26_hasNext cJ26_hasNext 1 (Option.some Jvm.ClassFile.FieldType.boolean)) := rfl
theorem y_J26_next : ax_Ym 86 = (yJ26_next, ws_ yJ26_next cJ26_next 1 (Option.some (Jvm.ClassFile.FieldType.object "java/lang/Object"))) := rfl
theorem y_J26_checkForComodification : ax_Ym 87 = (yJ26_checkForComodification, ws_ yJ26_checkForComodification cJ26_checkForComodification 1 (Option.none : Option Jvm.ClassFile.FieldType)) := rfl
theorem y_J26_hasPrevious : ax_Ym 88 = (yJ26_hasPrevious, ws_ yJ26_hasPrevious cJ26_hasPrevious 1 (Option.some Jvm.ClassFile.FieldType.boolean)) := rfl
theorem y_J26_previous : ax_Ym 89 = (yJ26_previous, ws_ yJ26_previous cJ26_previous 1 (Option.some (Jvm.ClassFile.FieldType.object "java/lang/Object"))) := rfl
theorem y_J26_add : ax_Ym 90 = (yJ26_add, ws_ yJ26_add cJ26_add 2 (Option.none : Option Jvm.ClassFile.FieldType)) := rfl
theorem y_J28_hasNext : ax_Ym 92 = (yJ28_hasNext, ws_ yJ28_hasNext cJ28_hasNext 1 (Option.some Jvm.ClassFile.FieldType.boolean)) := rfl
theorem y_J28_init : ax_Ym 93 = (yJ28_init, ws_ yJ28_init cJ28_init 2 (Option.none : Option Jvm.ClassFile.FieldType)) := rfl
theorem y_J29_next : ax_Ym 94 = (yJ29_next, ws_ yJ29_next cJ29_next 3 (Option.some (Jvm.ClassFile.FieldType.object "java/lang/Object"))) := rfl
theorem y_J29_init : ax_Ym 95 = (yJ29_init, ws_ yJ29_init cJ29_init 2 (Option.none : Option Jvm.ClassFile.FieldType)) := rfl
theorem y_J3_init : ax_Ym 96 = (yJ3_init, ws_ yJ3_init cJ3_init 1 (Option.none : Option Jvm.ClassFile.FieldType)) := rfl
theorem y_J31_init : ax_Ym 99 = (yJ31_init, ws_ yJ31_init cJ31_init 2 (Option.none : Option Jvm.ClassFile.FieldType)) := rfl
theorem y_J31_initWords : ax_Ym 100 = (yJ31_initWords, ws_ yJ31_initWords cJ31_initWords 2 (Option.none : Option Jvm.ClassFile.FieldType)) := rfl
theorem y_J31_wordIndex : ax_Ym 101 = (yJ31_wordIndex, ws_ yJ31_wordIndex cJ31_wordIndex 1 (Option.some Jvm.ClassFile.FieldType.int)) := rfl
theorem y_J31_set : ax_Ym 102 = (yJ31_set, ws_ yJ31_set cJ31_set 10 (Option.none : Option Jvm.ClassFile.FieldType)) := rfl
theorem y_J31_checkRange : ax_Ym 103 = (yJ31_checkRange, ws_ yJ31_checkRange cJ31_checkRange 2 (Option.none : Option Jvm.ClassFile.FieldType)) := rfl
theorem y_J31_expandTo : ax_Ym 104 = (yJ31_expandTo, ws_ yJ31_expandTo cJ31_expandTo 3 (Option.none : Option Jvm.ClassFile.FieldType)) := rfl
theorem y_J31_ensureCapacity : ax_Ym 105 = (yJ31_ensureCapacity, ws_ yJ31_ensureCapacity cJ31_ensureCapacity 3 (Option.none : Option Jvm.ClassFile.FieldType)) := rfl
theorem y_J31_checkInvariants : ax_Ym 106 = (yJ31_checkInvariants, ws_ yJ31_checkInvariants cJ31_checkInvariants 1 (Option.none : Option Jvm.ClassFile.FieldType)) := rfl
theorem y_J31_get : ax_Ym 107 = (yJ31_get, ws_ yJ31_get cJ31_get 3 (Option.some Jvm.ClassFile.FieldType.boolean)) := rfl
theorem y_J31_set_2 : ax_Ym 108 = (yJ31_set_2, ws_ yJ31_set_2 cJ31_set_2 3 (Option.none : Option Jvm.ClassFile.FieldType)) := rfl
theorem y_J32_init : ax_Ym 109 = (yJ32_init, ws_ yJ32_init cJ32_init 2 (Option.none : Option Jvm.ClassFile.FieldType)) := rfl
theorem y_J32_hasNext : ax_Ym 110 = (yJ32_hasNext, ws_ yJ32_hasNext cJ32_hasNext 1 (Option.some Jvm.ClassFile.FieldType.boolean)) := rfl
theorem y_J32_next : ax_Ym 111 = (yJ32_next, ws_ yJ32_next cJ32_next 3 (Option.some (Jvm.ClassFile.FieldType.object "java/lang/Object"))) := rfl
theorem y_J32_checkForComodification : ax_Ym 112 = (yJ32_checkForComodification, ws_ yJ32_checkForComodification cJ32_checkForComodification 1 (Option.none : Option Jvm.ClassFile.FieldType)) := rfl
theorem y_J4_init : ax_Ym 124 = (yJ4_init, ws_ yJ4_init cJ4_init 1 (Option.none : Option Jvm.ClassFile.FieldType)) := rfl
theorem y_J4_size : ax_Ym 125 = (yJ4_size, ws_ yJ4_size cJ4_size 1 (Option.some Jvm.ClassFile.FieldType.int)) := rfl
theorem y_J4_clear : ax_Ym 126 = (yJ4_clear, ws_ yJ4_clear cJ4_clear 3 (Option.none : Option Jvm.ClassFile.FieldType)) := rfl
theorem y_J4_get : ax_Ym 127 = (yJ4_get, ws_ yJ4_get cJ4_get 2 (Option.some (Jvm.ClassFile.FieldType.object "java/lang/Object"))) := rfl
theorem y_J4_checkElementIndex : ax_Ym 128 = (yJ4_checkElementIndex, ws_ yJ4_checkElementIndex cJ4_checkElementIndex 2 (Option.none : Option Jvm.ClassFile.FieldType)) := rfl
theorem y_J4_isElementIndex : ax_Ym 129 = (yJ4_isElementIndex, ws_ yJ4_isElementIndex cJ4_isElementIndex 2 (Option.some Jvm.ClassFile.FieldType.boolean)) := rfl
theorem y_J4_node : ax_Ym 131 = (yJ4_node, ws_ yJ4_node cJ4_node 4 (Option.some (Jvm.ClassFile.FieldType.object "java/util/LinkedList$Node"))) := rfl
theorem y_J4_linkLast : ax_Ym 133 = (yJ4_linkLast, ws_ yJ4_linkLast cJ4_linkLast 4 (Option.none : Option Jvm.ClassFile.FieldType)) := rfl
theorem y_J4_listIterator : ax_Ym 134 = (yJ4_listIterator, ws_ yJ4_listIterator cJ4_listIterator 2 (Option.some (Jvm.ClassFile.FieldType.object "java/util/ListIterato\x72"))) := rfl
theorem y_J4_checkPositionIndex : ax_Ym 135 = (yJ4_checkPositionIndex, ws_ yJ4_checkPositionIndex cJ4_checkPositionIndex 2 (Option.none : Option Jvm.ClassFile.FieldType)) := rfl
theorem y_J4_isPositionIndex : ax_Ym 136 = (yJ4_isPositionIndex, ws_ yJ4_isPositionIndex cJ4_isPositionIndex 2 (Option.some Jvm.ClassFile.FieldType.boolean)) := rfl
theorem y_J4_linkBefore : ax_Ym 138 = (yJ4_linkBefore, ws_ yJ4_linkBefore cJ4_linkBefore 5 (Option.none : Option Jvm.ClassFile.FieldType)) := rfl
theorem y_J4_addLast : ax_Ym 139 = (yJ4_addLast, ws_ yJ4_addLast cJ4_addLast 2 (Option.none : Option Jvm.ClassFile.FieldType)) := rfl
theorem y_J4_removeFirst : ax_Ym 140 = (yJ4_removeFirst, ws_ yJ4_removeFirst cJ4_removeFirst 2 (Option.some (Jvm.ClassFile.FieldType.object "java/lang/Object"))) := rfl
theorem y_J4_unlinkFirst : ax_Ym 141 = (yJ4_unlinkFirst, ws_ yJ4_unlinkFirst cJ4_unlinkFirst 4 (Option.some (Jvm.ClassFile.FieldType.object "java/lang/Object"))) := rfl
theorem y_J5_init : ax_Ym 142 = (yJ5_init, ws_ yJ5_init cJ5_init 1 (Option.none : Option Jvm.ClassFile.FieldType)) := rfl
theorem y_J5_size : ax_Ym 143 = (yJ5_size, ws_ yJ5_size cJ5_size 1 (Option.some Jvm.ClassFile.FieldType.int)) := rfl
theorem y_J5_sub : ax_Ym 144 = (yJ5_sub, ws_ yJ5_sub cJ5_sub 3 (Option.some Jvm.ClassFile.FieldType.int)) := rfl
theorem y_J5_nonNullElementAt : ax_Ym 145 = (yJ5_nonNullElementAt, ws_ yJ5_nonNullElementAt cJ5_nonNullElementAt 3 (Option.some (Jvm.ClassFile.FieldType.object "java/lang/Object"))) := rfl
theorem y_J5_dec : ax_Ym 146 = (yJ5_dec, ws_ yJ5_dec cJ5_dec 2 (Option.some Jvm.ClassFile.FieldType.int)) := rfl
theorem y_J5_clear : ax_Ym 147 = (yJ5_clear, ws_ yJ5_clear cJ5_clear 1 (Option.none : Option Jvm.ClassFile.FieldType)) := rfl
theorem y_J5_circularClear : ax_Ym 148 = (yJ5_circularClear, ws_ yJ5_circularClear cJ5_circularClear 4 (Option.none : Option Jvm.ClassFile.FieldType)) := rfl
theorem y_J5_addLast : ax_Ym 149 = (yJ5_addLast, ws_ yJ5_addLast cJ5_addLast 3 (Option.none : Option Jvm.ClassFile.FieldType)) := rfl
theorem y_J5_inc : ax_Ym 150 = (yJ5_inc, ws_ yJ5_inc cJ5_inc 2 (Option.some Jvm.ClassFile.FieldType.int)) := rfl
theorem y_J5_grow : ax_Ym 151 = (yJ5_grow, ws_ yJ5_grow cJ5_grow 9 (Option.none : Option Jvm.ClassFile.FieldType)) := rfl
theorem y_J5_newCapacity : ax_Ym 152 = (yJ5_newCapacity, ws_ yJ5_newCapacity cJ5_newCapacity 5 (Option.some Jvm.ClassFile.FieldType.int)) := rfl
theorem y_J5_removeFirst : ax_Ym 153 = (yJ5_removeFirst, ws_ yJ5_removeFirst cJ5_removeFirst 2 (Option.some (Jvm.ClassFile.FieldType.object "java/lang/Object"))) := rfl
theorem y_J5_pollFirst : ax_Ym 154 = (yJ5_pollFirst, ws_ yJ5_pollFirst cJ5_pollFirst 4 (Option.some (Jvm.ClassFile.FieldType.object "java/lang/Object"))) := rfl
theorem y_J5_elementAt : ax_Ym 155 = (yJ5_elementAt, ws_ yJ5_elementAt cJ5_elementAt 2 (Option.some (Jvm.ClassFile.FieldType.object "java/lang/Object"))) := rfl
theorem y_J5_isEmpty : ax_Ym 156 = (yJ5_isEmpty, ws_ yJ5_isEmpty cJ5_isEmpty 1 (Option.some Jvm.ClassFile.FieldType.boolean)) := rfl
theorem y_J5_removeLast : ax_Ym 157 = (yJ5_removeLast, ws_ yJ5_removeLast cJ5_removeLast 2 (Option.some (Jvm.ClassFile.FieldType.object "java/lang/Object"))) := rfl
theorem y_J5_pollLast : ax_Ym 158 = (yJ5_pollLast, ws_ yJ5_pollLast cJ5_pollLast 4 (Option.some (Jvm.ClassFile.FieldType.object "java/lang/Object"))) := rfl
theorem y_J5_peekLast : ax_Ym 159 = (yJ5_peekLast, ws_ yJ5_peekLast cJ5_peekLast 2 (Option.some (Jvm.ClassFile.FieldType.object "java/lang/Object"))) := rfl
theorem y_J5_descendingIterator : ax_Ym 160 = (yJ5_descendingIterator, ws_ yJ5_descendingIterator cJ5_descendingIterator 1 (Option.some (Jvm.ClassFile.FieldType.object "java/util/Iterato\x72"))) := rfl
theorem y_J6_init_2 : ax_Ym 162 = (yJ6_init_2, ws_ yJ6_init_2 cJ6_init_2 2 (Option.none : Option Jvm.ClassFile.FieldType)) := rfl
theorem y_J6_init_4 : ax_Ym 167 = (yJ6_init_4, ws_ yJ6_init_4 cJ6_init_4 3 (Option.none : Option Jvm.ClassFile.FieldType)) := rfl
theorem y_J7_init : ax_Ym 168 = (yJ7_init, ws_ yJ7_init cJ7_init 2 (Option.none : Option Jvm.ClassFile.FieldType)) := rfl
theorem y_J7_init_3 : ax_Ym 170 = (yJ7_init_3, ws_ yJ7_init_3 cJ7_init_3 1 (Option.none : Option Jvm.ClassFile.FieldType)) := rfl
theorem y_J7_init_4 : ax_Ym 171 = (yJ7_init_4, ws_ yJ7_init_4 cJ7_init_4 3 (Option.none : Option Jvm.ClassFile.FieldType)) := rfl
theorem y_J8_init : ax_Ym 172 = (yJ8_init, ws_ yJ8_init cJ8_init 2 (Option.none : Option Jvm.ClassFile.FieldType)) := rfl
theorem y_J8_init_3 : ax_Ym 174 = (yJ8_init_3, ws_ yJ8_init_3 cJ8_init_3 1 (Option.none : Option Jvm.ClassFile.FieldType)) := rfl
theorem y_J8_init_4 : ax_Ym 175 = (yJ8_init_4, ws_ yJ8_init_4 cJ8_init_4 3 (Option.none : Option Jvm.ClassFile.FieldType)) := rfl
theorem y_J9_init : ax_Ym 176 = (yJ9_init, ws_ yJ9_init cJ9_init 2 (Option.none : Option Jvm.ClassFile.FieldType)) := rfl
theorem y_X0_section : ax_Ym 178 = (yX0_section, wsW_ yX0_section cX0_section 4 (Option.some Jvm.ClassFile.FieldType.int) [(0, 9, 12, 13), (0, 9, 15, 15)]) := rfl
theorem y_X0_label : ax_Ym 179 = (yX0_label, wsW_ yX0_label cX0_label 4 (Option.some Jvm.ClassFile.FieldType.int) [(0, 9, 12, 13), (0, 9, 15, 15)]) := rfl
theorem y_X0_code : ax_Ym 180 = (yX0_code, wsW_ yX0_code cX0_code 8 (Option.some Jvm.ClassFile.FieldType.int) [(0, 16, 19, 13), (0, 16, 23, 15)]) := rfl
theorem y_X0_word : ax_Ym 181 = (yX0_word, wsW_ yX0_word cX0_word 5 (Option.some Jvm.ClassFile.FieldType.int) [(0, 10, 13, 13), (0, 10, 17, 15)]) := rfl
theorem y_X0_space : ax_Ym 182 = (yX0_space, wsW_ yX0_space cX0_space 4 (Option.some Jvm.ClassFile.FieldType.int) [(0, 9, 12, 13), (0, 9, 15, 15)]) := rfl
theorem y_X0_vector : ax_Ym 183 = (yX0_vector, wsW_ yX0_vector cX0_vector 6 (Option.some Jvm.ClassFile.FieldType.int) [(0, 12, 15, 13), (0, 12, 19, 15)]) := rfl
theorem y_X0_macro : ax_Ym 184 = (yX0_macro, wsW_ yX0_macro cX0_macro 4 (Option.some Jvm.ClassFile.FieldType.int) [(0, 9, 12, 13), (0, 9, 15, 15)]) := rfl
theorem y_X0_endMacro : ax_Ym 185 = (yX0_endMacro, wsW_ yX0_endMacro cX0_endMacro 3 (Option.some Jvm.ClassFile.FieldType.int) [(0, 8, 11, 15)]) := rfl
theorem y_X0_use : ax_Ym 186 = (yX0_use, wsW_ yX0_use cX0_use 8 (Option.some Jvm.ClassFile.FieldType.int) [(0, 16, 19, 13), (0, 16, 23, 15)]) := rfl
theorem y_X0_assemble : ax_Ym 187 = (yX0_assemble, wsW_ yX0_assemble cX0_assemble 3 (Option.some Jvm.ClassFile.FieldType.int) [(0, 8, 11, 15)]) := rfl
theorem y_X0_image : ax_Ym 188 = (yX0_image, wsW_ yX0_image cX0_image 4 (Option.some Jvm.ClassFile.FieldType.int) [(0, 9, 12, 13), (0, 9, 15, 15)]) := rfl
theorem y_X0_start : ax_Ym 189 = (yX0_start, wsW_ yX0_start cX0_start 3 (Option.some Jvm.ClassFile.FieldType.int) [(0, 8, 11, 15)]) := rfl
theorem y_X0_crash : ax_Ym 190 = (yX0_crash, wsW_ yX0_crash cX0_crash 3 (Option.some Jvm.ClassFile.FieldType.int) [(0, 8, 11, 15)]) := rfl
theorem y_X0_format : ax_Ym 191 = (yX0_format, wsW_ yX0_format cX0_format 3 (Option.some Jvm.ClassFile.FieldType.int) [(0, 8, 11, 15)]) := rfl
theorem y_X0_step : ax_Ym 192 = (yX0_step, wsW_ yX0_step cX0_step 4 (Option.some Jvm.ClassFile.FieldType.int) [(0, 9, 12, 13), (0, 9, 15, 15)]) := rfl
theorem y_X0_runTo : ax_Ym 193 = (yX0_runTo, wsW_ yX0_runTo cX0_runTo 5 (Option.some Jvm.ClassFile.FieldType.int) [(0, 10, 13, 13), (0, 10, 17, 15)]) := rfl
theorem y_X0_back : ax_Ym 194 = (yX0_back, wsW_ yX0_back cX0_back 4 (Option.some Jvm.ClassFile.FieldType.int) [(0, 9, 12, 13), (0, 9, 15, 15)]) := rfl
theorem y_X0_press : ax_Ym 195 = (yX0_press, wsW_ yX0_press cX0_press 4 (Option.some Jvm.ClassFile.FieldType.int) [(0, 9, 12, 13), (0, 9, 15, 15)]) := rfl
theorem y_X0_register : ax_Ym 196 = (yX0_register, wsW_ yX0_register cX0_register 4 (Option.some Jvm.ClassFile.FieldType.int) [(0, 9, 12, 13)]) := rfl
theorem y_X0_memory : ax_Ym 197 = (yX0_memory, wsW_ yX0_memory cX0_memory 4 (Option.some Jvm.ClassFile.FieldType.int) [(0, 9, 12, 13)]) := rfl
theorem y_X0_changedAt : ax_Ym 198 = (yX0_changedAt, wsW_ yX0_changedAt cX0_changedAt 4 (Option.some Jvm.ClassFile.FieldType.int) [(0, 9, 12, 13)]) := rfl
theorem y_X0_tapeAt : ax_Ym 199 = (yX0_tapeAt, wsW_ yX0_tapeAt cX0_tapeAt 4 (Option.some Jvm.ClassFile.FieldType.int) [(0, 9, 12, 84)]) := rfl
theorem y_X0_sumAnew : ax_Ym 200 = (yX0_sumAnew, wsW_ yX0_sumAnew cX0_sumAnew 4 (Option.some Jvm.ClassFile.FieldType.int) [(0, 9, 12, 15), (0, 9, 15, 13)]) := rfl
theorem y_X0_disk : ax_Ym 201 = (yX0_disk, wsW_ yX0_disk cX0_disk 5 (Option.some Jvm.ClassFile.FieldType.int) [(0, 10, 13, 13)]) := rfl
theorem y_X0_size : ax_Ym 202 = (yX0_size, wsW_ yX0_size cX0_size 4 (Option.some Jvm.ClassFile.FieldType.int) [(0, 9, 12, 13), (0, 9, 15, 95)]) := rfl
theorem y_X0_wordOf : ax_Ym 203 = (yX0_wordOf, wsW_ yX0_wordOf cX0_wordOf 5 (Option.some Jvm.ClassFile.FieldType.int) [(0, 10, 13, 13), (0, 10, 17, 95), (0, 10, 21, 84)]) := rfl
theorem y_X0_testKey : ax_Ym 204 = (yX0_testKey, wsW_ yX0_testKey cX0_testKey 4 (Option.some Jvm.ClassFile.FieldType.int) [(0, 9, 12, 13), (0, 9, 15, 15)]) := rfl
theorem y_X0_testWord : ax_Ym 205 = (yX0_testWord, wsW_ yX0_testWord cX0_testWord 4 (Option.some Jvm.ClassFile.FieldType.int) [(0, 9, 12, 13), (0, 9, 15, 15)]) := rfl
theorem y_X0_addTest : ax_Ym 206 = (yX0_addTest, wsW_ yX0_addTest cX0_addTest 7 (Option.some Jvm.ClassFile.FieldType.int) [(0, 14, 17, 13), (0, 14, 21, 15)]) := rfl
theorem y_X0_submit : ax_Ym 207 = (yX0_submit, wsW_ yX0_submit cX0_submit 3 (Option.some Jvm.ClassFile.FieldType.int) [(0, 8, 11, 15)]) := rfl
theorem y_X0_result : ax_Ym 208 = (yX0_result, wsW_ yX0_result cX0_result 4 (Option.some Jvm.ClassFile.FieldType.int) [(0, 9, 12, 84)]) := rfl
theorem y_X1_init : ax_Ym 209 = (yX1_init, ws_ yX1_init cX1_init 1 (Option.none : Option Jvm.ClassFile.FieldType)) := rfl
theorem y_X1_clear : ax_Ym 210 = (yX1_clear, ws_ yX1_clear cX1_clear 2 (Option.some Jvm.ClassFile.FieldType.int)) := rfl
theorem y_X1_lines : ax_Ym 211 = (yX1_lines, ws_ yX1_lines cX1_lines 1 (Option.some Jvm.ClassFile.FieldType.int)) := rfl
theorem y_X1_error : ax_Ym 212 = (yX1_error, wsW_ yX1_error cX1_error 2 (Option.some Jvm.ClassFile.FieldType.int) [(0, 19, 20, 1)]) := rfl
theorem y_X1_check : ax_Ym 213 = (yX1_check, ws_ yX1_check cX1_check 3 (Option.none : Option Jvm.ClassFile.FieldType)) := rfl
theorem y_X1_cut : ax_Ym 214 = (yX1_cut, ws_ yX1_cut cX1_cut 2 (Option.some Jvm.ClassFile.FieldType.int)) := rfl
theorem y_X1_state : ax_Ym 215 = (yX1_state, ws_ yX1_state cX1_state 1 (Option.some Jvm.ClassFile.FieldType.int)) := rfl
theorem y_X1_fault : ax_Ym 216 = (yX1_fault, ws_ yX1_fault cX1_fault 1 (Option.some Jvm.ClassFile.FieldType.int)) := rfl
theorem y_X1_steps : ax_Ym 217 = (yX1_steps, ws_ yX1_steps cX1_steps 1 (Option.some Jvm.ClassFile.FieldType.int)) := rfl
theorem y_X1_kept : ax_Ym 218 = (yX1_kept, ws_ yX1_kept cX1_kept 1 (Option.some Jvm.ClassFile.FieldType.int)) := rfl
theorem y_X1_counter : ax_Ym 219 = (yX1_counter, ws_ yX1_counter cX1_counter 1 (Option.some Jvm.ClassFile.FieldType.int)) := rfl
theorem y_X1_stack : ax_Ym 220 = (yX1_stack, ws_ yX1_stack cX1_stack 1 (Option.some Jvm.ClassFile.FieldType.int)) := rfl
theorem y_X1_flags : ax_Ym 221 = (yX1_flags, ws_ yX1_flags cX1_flags 1 (Option.some Jvm.ClassFile.FieldType.int)) := rfl
theorem y_X1_writesLeft : ax_Ym 222 = (yX1_writesLeft, ws_ yX1_writesLeft cX1_writesLeft 1 (Option.some Jvm.ClassFile.FieldType.int)) := rfl
theorem y_X1_tape : ax_Ym 223 = (yX1_tape, ws_ yX1_tape cX1_tape 1 (Option.some Jvm.ClassFile.FieldType.int)) := rfl
theorem y_X1_sum : ax_Ym 224 = (yX1_sum, ws_ yX1_sum cX1_sum 1 (Option.some Jvm.ClassFile.FieldType.int)) := rfl
theorem y_X1_written : ax_Ym 225 = (yX1_written, ws_ yX1_written cX1_written 1 (Option.some Jvm.ClassFile.FieldType.int)) := rfl
theorem y_X1_files : ax_Ym 226 = (yX1_files, ws_ yX1_files cX1_files 3 (Option.some Jvm.ClassFile.FieldType.int)) := rfl
theorem y_X1_freeBlocks : ax_Ym 227 = (yX1_freeBlocks, ws_ yX1_freeBlocks cX1_freeBlocks 3 (Option.some Jvm.ClassFile.FieldType.int)) := rfl
theorem y_X1_isWhole : ax_Ym 228 = (yX1_isWhole, ws_ yX1_isWhole cX1_isWhole 1 (Option.some Jvm.ClassFile.FieldType.boolean)) := rfl
theorem y_X1_tests : ax_Ym 229 = (yX1_tests, ws_ yX1_tests cX1_tests 1 (Option.some Jvm.ClassFile.FieldType.int)) := rfl
theorem y_X1_mark : ax_Ym 230 = (yX1_mark, ws_ yX1_mark cX1_mark 4 (Option.some Jvm.ClassFile.FieldType.int)) := rfl
theorem y_X1_section : ax_Ym 231 = (yX1_section, ws_ yX1_section cX1_section 2 (Option.some Jvm.ClassFile.FieldType.int)) := rfl
theorem y_X1_in : ax_Ym 232 = (yX1_in, ws_ yX1_in cX1_in 3 (Option.some Jvm.ClassFile.FieldType.int)) := rfl
theorem y_X1_add : ax_Ym 233 = (yX1_add, ws_ yX1_add cX1_add 2 (Option.some Jvm.ClassFile.FieldType.int)) := rfl
theorem y_X1_must : ax_Ym 234 = (yX1_must, ws_ yX1_must cX1_must 1 (Option.none : Option Jvm.ClassFile.FieldType)) := rfl
theorem y_X1_label : ax_Ym 235 = (yX1_label, ws_ yX1_label cX1_label 2 (Option.some Jvm.ClassFile.FieldType.int)) := rfl
theorem y_X1_code : ax_Ym 236 = (yX1_code, ws_ yX1_code cX1_code 7 (Option.some Jvm.ClassFile.FieldType.int)) := rfl
theorem y_X1_operand : ax_Ym 237 = (yX1_operand, ws_ yX1_operand cX1_operand 2 (Option.some (Jvm.ClassFile.FieldType.object "KernelGym$Operand"))) := rfl
theorem y_X1_word : ax_Ym 238 = (yX1_word, ws_ yX1_word cX1_word 4 (Option.some Jvm.ClassFile.FieldType.int)) := rfl
theorem y_X1_space : ax_Ym 239 = (yX1_space, ws_ yX1_space cX1_space 2 (Option.some Jvm.ClassFile.FieldType.int)) := rfl
theorem y_X1_vector : ax_Ym 240 = (yX1_vector, ws_ yX1_vector cX1_vector 5 (Option.some Jvm.ClassFile.FieldType.int)) := rfl
theorem y_X1_macro : ax_Ym 241 = (yX1_macro, ws_ yX1_macro cX1_macro 2 (Option.some Jvm.ClassFile.FieldType.int)) := rfl
theorem y_X1_endMacro : ax_Ym 242 = (yX1_endMacro, ws_ yX1_endMacro cX1_endMacro 1 (Option.some Jvm.ClassFile.FieldType.int)) := rfl
theorem y_X1_use : ax_Ym 243 = (yX1_use, ws_ yX1_use cX1_use 8 (Option.some Jvm.ClassFile.FieldType.int)) := rfl
theorem y_X1_assemble : ax_Ym 244 = (yX1_assemble, wsW_ yX1_assemble cX1_assemble 2 (Option.some Jvm.ClassFile.FieldType.int) [(0, 21, 22, 1)]) := rfl
theorem y_X1_image : ax_Ym 245 = (yX1_image, ws_ yX1_image cX1_image 2 (Option.some Jvm.ClassFile.FieldType.int)) := rfl
theorem y_X1_start : ax_Ym 246 = (yX1_start, ws_ yX1_start cX1_start 1 (Option.some Jvm.ClassFile.FieldType.int)) := rfl
theorem y_X1_crash : ax_Ym 247 = (yX1_crash, ws_ yX1_crash cX1_crash 1 (Option.some Jvm.ClassFile.FieldType.int)) := rfl
theorem y_X1_format : ax_Ym 248 = (yX1_format, ws_ yX1_format cX1_format 2 (Option.some Jvm.ClassFile.FieldType.int)) := rfl
theorem y_X1_step : ax_Ym 249 = (yX1_step, ws_ yX1_step cX1_step 3 (Option.some Jvm.ClassFile.FieldType.int)) := rfl
theorem y_X1_runTo : ax_Ym 250 = (yX1_runTo, ws_ yX1_runTo cX1_runTo 5 (Option.some Jvm.ClassFile.FieldType.int)) := rfl
theorem y_X1_back : ax_Ym 251 = (yX1_back, ws_ yX1_back cX1_back 2 (Option.some Jvm.ClassFile.FieldType.int)) := rfl
theorem y_X1_press : ax_Ym 252 = (yX1_press, ws_ yX1_press cX1_press 2 (Option.some Jvm.ClassFile.FieldType.int)) := rfl
theorem y_X1_register : ax_Ym 253 = (yX1_register, ws_ yX1_register cX1_register 2 (Option.some Jvm.ClassFile.FieldType.int)) := rfl
theorem y_X1_memory : ax_Ym 254 = (yX1_memory, ws_ yX1_memory cX1_memory 2 (Option.some Jvm.ClassFile.FieldType.int)) := rfl
theorem y_X1_changedAt : ax_Ym 255 = (yX1_changedAt, ws_ yX1_changedAt cX1_changedAt 2 (Option.some Jvm.ClassFile.FieldType.int)) := rfl
theorem y_X1_tapeAt : ax_Ym 256 = (yX1_tapeAt, ws_ yX1_tapeAt cX1_tapeAt 2 (Option.some Jvm.ClassFile.FieldType.int)) := rfl
theorem y_X1_sumAnew : ax_Ym 257 = (yX1_sumAnew, ws_ yX1_sumAnew cX1_sumAnew 2 (Option.some Jvm.ClassFile.FieldType.int)) := rfl
theorem y_X1_disk : ax_Ym 258 = (yX1_disk, ws_ yX1_disk cX1_disk 3 (Option.some Jvm.ClassFile.FieldType.int)) := rfl
theorem y_X1_size : ax_Ym 259 = (yX1_size, ws_ yX1_size cX1_size 2 (Option.some Jvm.ClassFile.FieldType.int)) := rfl
theorem y_X1_file : ax_Ym 260 = (yX1_file, ws_ yX1_file cX1_file 3 (Option.some Jvm.ClassFile.FieldType.int)) := rfl
theorem y_X1_wordOf : ax_Ym 261 = (yX1_wordOf, ws_ yX1_wordOf cX1_wordOf 4 (Option.some Jvm.ClassFile.FieldType.int)) := rfl
theorem y_X1_testKey : ax_Ym 262 = (yX1_testKey, ws_ yX1_testKey cX1_testKey 2 (Option.some Jvm.ClassFile.FieldType.int)) := rfl
theorem y_X1_draft : ax_Ym 263 = (yX1_draft, ws_ yX1_draft cX1_draft 2 (Option.some Jvm.ClassFile.FieldType.int)) := rfl
theorem y_X1_testWord : ax_Ym 264 = (yX1_testWord, ws_ yX1_testWord cX1_testWord 2 (Option.some Jvm.ClassFile.FieldType.int)) := rfl
theorem y_X1_addTest : ax_Ym 265 = (yX1_addTest, ws_ yX1_addTest cX1_addTest 5 (Option.some Jvm.ClassFile.FieldType.int)) := rfl
theorem y_X1_taken : ax_Ym 266 = (yX1_taken, ws_ yX1_taken cX1_taken 3 (Option.some (Jvm.ClassFile.FieldType.array Jvm.ClassFile.FieldType.int))) := rfl
theorem y_X1_submit : ax_Ym 267 = (yX1_submit, ws_ yX1_submit cX1_submit 4 (Option.some Jvm.ClassFile.FieldType.int)) := rfl
theorem y_X1_result : ax_Ym 268 = (yX1_result, ws_ yX1_result cX1_result 2 (Option.some Jvm.ClassFile.FieldType.int)) := rfl
theorem y_X10_go : ax_Ym 269 = (yX10_go, ws_ yX10_go cX10_go 5 (Option.some Jvm.ClassFile.FieldType.int)) := rfl
theorem y_X10_init : ax_Ym 270 = (yX10_init, ws_ yX10_init cX10_init 3 (Option.none : Option Jvm.ClassFile.FieldType)) := rfl
theorem y_X11_go : ax_Ym 271 = (yX11_go, ws_ yX11_go cX11_go 4 (Option.some Jvm.ClassFile.FieldType.int)) := rfl
theorem y_X11_init : ax_Ym 272 = (yX11_init, ws_ yX11_init cX11_init 4 (Option.none : Option Jvm.ClassFile.FieldType)) := rfl
theorem y_X12_go : ax_Ym 273 = (yX12_go, ws_ yX12_go cX12_go 4 (Option.some Jvm.ClassFile.FieldType.int)) := rfl
theorem y_X12_beginsMacro : ax_Ym 274 = (yX12_beginsMacro, ws_ yX12_beginsMacro cX12_beginsMacro 1 (Option.some Jvm.ClassFile.FieldType.boolean)) := rfl
theorem y_X12_init : ax_Ym 275 = (yX12_init, ws_ yX12_init cX12_init 3 (Option.none : Option Jvm.ClassFile.FieldType)) := rfl
theorem y_X13_endsMacro : ax_Ym 276 = (yX13_endsMacro, ws_ yX13_endsMacro cX13_endsMacro 1 (Option.some Jvm.ClassFile.FieldType.boolean)) := rfl
theorem y_X13_go : ax_Ym 277 = (yX13_go, ws_ yX13_go cX13_go 4 (Option.some Jvm.ClassFile.FieldType.int)) := rfl
theorem y_X13_init : ax_Ym 278 = (yX13_init, ws_ yX13_init cX13_init 2 (Option.none : Option Jvm.ClassFile.FieldType)) := rfl
theorem y_X14_go : ax_Ym 279 = (yX14_go, ws_ yX14_go cX14_go 4 (Option.some Jvm.ClassFile.FieldType.int)) := rfl
theorem y_X14_init : ax_Ym 280 = (yX14_init, ws_ yX14_init cX14_init 5 (Option.none : Option Jvm.ClassFile.FieldType)) := rfl
theorem y_X15_init : ax_Ym 281 = (yX15_init, ws_ yX15_init cX15_init 3 (Option.none : Option Jvm.ClassFile.FieldType)) := rfl
theorem y_X15_rowOf : ax_Ym 282 = (yX15_rowOf, ws_ yX15_rowOf cX15_rowOf 3 (Option.some (Jvm.ClassFile.FieldType.array Jvm.ClassFile.FieldType.int))) := rfl
theorem y_X15_address : ax_Ym 283 = (yX15_address, ws_ yX15_address cX15_address 5 (Option.some Jvm.ClassFile.FieldType.int)) := rfl
theorem y_X15_makeWords : ax_Ym 284 = (yX15_makeWords, ws_ yX15_makeWords cX15_makeWords 2 (Option.none : Option Jvm.ClassFile.FieldType)) := rfl
theorem y_X16_init : ax_Ym 285 = (yX16_init, ws_ yX16_init cX16_init 3 (Option.none : Option Jvm.ClassFile.FieldType)) := rfl
theorem y_X17_init : ax_Ym 286 = (yX17_init, ws_ yX17_init cX17_init 3 (Option.none : Option Jvm.ClassFile.FieldType)) := rfl
theorem y_X17_go : ax_Ym 287 = (yX17_go, ws_ yX17_go cX17_go 5 (Option.none : Option Jvm.ClassFile.FieldType)) := rfl
theorem y_X17_define : ax_Ym 288 = (yX17_define, ws_ yX17_define cX17_define 4 (Option.some Jvm.ClassFile.FieldType.int)) := rfl
theorem y_X17_expand : ax_Ym 289 = (yX17_expand, ws_ yX17_expand cX17_expand 9 (Option.none : Option Jvm.ClassFile.FieldType)) := rfl
theorem y_X18_init : ax_Ym 290 = (yX18_init, ws_ yX18_init cX18_init 3 (Option.none : Option Jvm.ClassFile.FieldType)) := rfl
theorem y_X18_set : ax_Ym 291 = (yX18_set, ws_ yX18_set cX18_set 5 (Option.none : Option Jvm.ClassFile.FieldType)) := rfl
theorem y_X18_take : ax_Ym 292 = (yX18_take, ws_ yX18_take cX18_take 3 (Option.none : Option Jvm.ClassFile.FieldType)) := rfl
theorem y_X18_value : ax_Ym 293 = (yX18_value, ws_ yX18_value cX18_value 4 (Option.some Jvm.ClassFile.FieldType.int)) := rfl
theorem y_X18_point : ax_Ym 294 = (yX18_point, ws_ yX18_point cX18_point 3 (Option.none : Option Jvm.ClassFile.FieldType)) := rfl
theorem y_X18_begin : ax_Ym 295 = (yX18_begin, ws_ yX18_begin cX18_begin 4 (Option.some (Jvm.ClassFile.FieldType.object "KernelGym$Use"))) := rfl
theorem y_X19_init : ax_Ym 296 = (yX19_init, ws_ yX19_init cX19_init 3 (Option.none : Option Jvm.ClassFile.FieldType)) := rfl
theorem y_X19_told : ax_Ym 297 = (yX19_told, ws_ yX19_told cX19_told 1 (Option.some Jvm.ClassFile.FieldType.int)) := rfl
theorem y_X2_init : ax_Ym 298 = (yX2_init, ws_ yX2_init cX2_init 2 (Option.none : Option Jvm.ClassFile.FieldType)) := rfl
theorem y_X2_format : ax_Ym 299 = (yX2_format, ws_ yX2_format cX2_format 2 (Option.none : Option Jvm.ClassFile.FieldType)) := rfl
theorem y_X2_flags : ax_Ym 300 = (yX2_flags, ws_ yX2_flags cX2_flags 1 (Option.some Jvm.ClassFile.FieldType.int)) := rfl
theorem y_X2_writesLeft : ax_Ym 301 = (yX2_writesLeft, ws_ yX2_writesLeft cX2_writesLeft 1 (Option.some Jvm.ClassFile.FieldType.int)) := rfl
theorem y_X2_sum : ax_Ym 302 = (yX2_sum, ws_ yX2_sum cX2_sum 2 (Option.some Jvm.ClassFile.FieldType.int)) := rfl
theorem y_X2_added : ax_Ym 303 = (yX2_added, ws_ yX2_added cX2_added 6 (Option.some Jvm.ClassFile.FieldType.int)) := rfl
theorem y_X2_joined : ax_Ym 304 = (yX2_joined, ws_ yX2_joined cX2_joined 2 (Option.some Jvm.ClassFile.FieldType.int)) := rfl
theorem y_X2_entry : ax_Ym 305 = (yX2_entry, ws_ yX2_entry cX2_entry 3 (Option.some Jvm.ClassFile.FieldType.int)) := rfl
theorem y_X2_isUsed : ax_Ym 306 = (yX2_isUsed, ws_ yX2_isUsed cX2_isUsed 2 (Option.some Jvm.ClassFile.FieldType.boolean)) := rfl
theorem y_X2_isWhole : ax_Ym 307 = (yX2_isWhole, ws_ yX2_isWhole cX2_isWhole 8 (Option.some Jvm.ClassFile.FieldType.boolean)) := rfl
theorem y_X2_find : ax_Ym 308 = (yX2_find, ws_ yX2_find cX2_find 4 (Option.some Jvm.ClassFile.FieldType.int)) := rfl
theorem y_X2_isOn : ax_Ym 309 = (yX2_isOn, ws_ yX2_isOn cX2_isOn 1 (Option.some Jvm.ClassFile.FieldType.boolean)) := rfl
theorem y_X2_start : ax_Ym 310 = (yX2_start, ws_ yX2_start cX2_start 3 (Option.some Jvm.ClassFile.FieldType.int)) := rfl
theorem y_X2_mend : ax_Ym 311 = (yX2_mend, ws_ yX2_mend cX2_mend 4 (Option.some Jvm.ClassFile.FieldType.int)) := rfl
theorem y_X2_logged : ax_Ym 312 = (yX2_logged, ws_ yX2_logged cX2_logged 4 (Option.some Jvm.ClassFile.FieldType.int)) := rfl
theorem y_X2_begin : ax_Ym 313 = (yX2_begin, ws_ yX2_begin cX2_begin 2 (Option.none : Option Jvm.ClassFile.FieldType)) := rfl
theorem y_X2_crash : ax_Ym 314 = (yX2_crash, ws_ yX2_crash cX2_crash 3 (Option.some Jvm.ClassFile.FieldType.int)) := rfl
theorem y_X2_goesOn : ax_Ym 315 = (yX2_goesOn, ws_ yX2_goesOn cX2_goesOn 1 (Option.some Jvm.ClassFile.FieldType.boolean)) := rfl
theorem y_X2_make : ax_Ym 316 = (yX2_make, wsW_ yX2_make cX2_make 2 (Option.none : Option Jvm.ClassFile.FieldType) [(50, 54, 57, 147), (50, 54, 57, 149), (50, 54, 77, 155), (50, 54, 77, 157)]) := rfl
theorem y_X2_act : ax_Ym 317 = (yX2_act, ws_ yX2_act cX2_act 1 (Option.none : Option Jvm.ClassFile.FieldType)) := rfl
theorem y_X2_write : ax_Ym 318 = (yX2_write, ws_ yX2_write cX2_write 3 (Option.none : Option Jvm.ClassFile.FieldType)) := rfl
theorem y_X2_writeBlock : ax_Ym 319 = (yX2_writeBlock, ws_ yX2_writeBlock cX2_writeBlock 4 (Option.none : Option Jvm.ClassFile.FieldType)) := rfl
theorem y_X2_set : ax_Ym 320 = (yX2_set, ws_ yX2_set cX2_set 3 (Option.none : Option Jvm.ClassFile.FieldType)) := rfl
theorem y_X2_writeHead : ax_Ym 321 = (yX2_writeHead, ws_ yX2_writeHead cX2_writeHead 5 (Option.none : Option Jvm.ClassFile.FieldType)) := rfl
theorem y_X2_isWaiting : ax_Ym 322 = (yX2_isWaiting, ws_ yX2_isWaiting cX2_isWaiting 1 (Option.some Jvm.ClassFile.FieldType.boolean)) := rfl
theorem y_X2_interrupt : ax_Ym 323 = (yX2_interrupt, ws_ yX2_interrupt cX2_interrupt 2 (Option.none : Option Jvm.ClassFile.FieldType)) := rfl
theorem y_X2_room : ax_Ym 324 = (yX2_room, ws_ yX2_room cX2_room 2 (Option.none : Option Jvm.ClassFile.FieldType)) := rfl
theorem y_X2_push : ax_Ym 325 = (yX2_push, ws_ yX2_push cX2_push 2 (Option.none : Option Jvm.ClassFile.FieldType)) := rfl
theorem y_X2_instruct : ax_Ym 326 = (yX2_instruct, ws_ yX2_instruct cX2_instruct 8 (Option.none : Option Jvm.ClassFile.FieldType)) := rfl
theorem y_X2_address : ax_Ym 327 = (yX2_address, ws_ yX2_address cX2_address 1 (Option.some Jvm.ClassFile.FieldType.int)) := rfl
theorem y_X2_reckon : ax_Ym 328 = (yX2_reckon, ws_ yX2_reckon cX2_reckon 7 (Option.none : Option Jvm.ClassFile.FieldType)) := rfl
theorem y_X2_move : ax_Ym 329 = (yX2_move, ws_ yX2_move cX2_move 5 (Option.some Jvm.ClassFile.FieldType.int)) := rfl
theorem y_X2_held : ax_Ym 330 = (yX2_held, ws_ yX2_held cX2_held 2 (Option.none : Option Jvm.ClassFile.FieldType)) := rfl
theorem y_X2_pull : ax_Ym 331 = (yX2_pull, ws_ yX2_pull cX2_pull 2 (Option.some Jvm.ClassFile.FieldType.int)) := rfl
theorem y_X2_serve : ax_Ym 332 = (yX2_serve, ws_ yX2_serve cX2_serve 6 (Option.some Jvm.ClassFile.FieldType.int)) := rfl
theorem y_X2_read : ax_Ym 333 = (yX2_read, ws_ yX2_read cX2_read 2 (Option.some Jvm.ClassFile.FieldType.int)) := rfl
theorem y_X2_told : ax_Ym 334 = (yX2_told, ws_ yX2_told cX2_told 6 (Option.some Jvm.ClassFile.FieldType.int)) := rfl
theorem y_X2_call : ax_Ym 335 = (yX2_call, ws_ yX2_call cX2_call 5 (Option.some Jvm.ClassFile.FieldType.boolean)) := rfl
theorem y_X2_plan : ax_Ym 336 = (yX2_plan, ws_ yX2_plan cX2_plan 6 (Option.some Jvm.ClassFile.FieldType.int)) := rfl
theorem y_X2_named : ax_Ym 337 = (yX2_named, ws_ yX2_named cX2_named 2 (Option.some Jvm.ClassFile.FieldType.int)) := rfl
theorem y_X2_setEntry : ax_Ym 338 = (yX2_setEntry, ws_ yX2_setEntry cX2_setEntry 4 (Option.none : Option Jvm.ClassFile.FieldType)) := rfl
theorem y_X2_draft : ax_Ym 339 = (yX2_draft, ws_ yX2_draft cX2_draft 5 (Option.some (Jvm.ClassFile.FieldType.array Jvm.ClassFile.FieldType.int))) := rfl
theorem y_X2_append : ax_Ym 340 = (yX2_append, ws_ yX2_append cX2_append 9 (Option.some Jvm.ClassFile.FieldType.int)) := rfl
theorem y_X2_firstFree : ax_Ym 341 = (yX2_firstFree, ws_ yX2_firstFree cX2_firstFree 3 (Option.some Jvm.ClassFile.FieldType.int)) := rfl
theorem y_X2_mark : ax_Ym 342 = (yX2_mark, ws_ yX2_mark cX2_mark 5 (Option.none : Option Jvm.ClassFile.FieldType)) := rfl
theorem y_X2_wordOf : ax_Ym 343 = (yX2_wordOf, ws_ yX2_wordOf cX2_wordOf 3 (Option.some Jvm.ClassFile.FieldType.int)) := rfl
theorem y_X2_remove : ax_Ym 344 = (yX2_remove, ws_ yX2_remove cX2_remove 3 (Option.none : Option Jvm.ClassFile.FieldType)) := rfl
theorem y_X2_rename : ax_Ym 345 = (yX2_rename, ws_ yX2_rename cX2_rename 5 (Option.some Jvm.ClassFile.FieldType.int)) := rfl
theorem y_X2_stop : ax_Ym 346 = (yX2_stop, ws_ yX2_stop cX2_stop 2 (Option.none : Option Jvm.ClassFile.FieldType)) := rfl
theorem y_X2_pass : ax_Ym 347 = (yX2_pass, ws_ yX2_pass cX2_pass 2 (Option.none : Option Jvm.ClassFile.FieldType)) := rfl
theorem y_X2_back : ax_Ym 348 = (yX2_back, ws_ yX2_back cX2_back 5 (Option.some Jvm.ClassFile.FieldType.int)) := rfl
theorem y_X2_press : ax_Ym 349 = (yX2_press, ws_ yX2_press cX2_press 5 (Option.none : Option Jvm.ClassFile.FieldType)) := rfl
theorem y_X2_changedAt : ax_Ym 350 = (yX2_changedAt, ws_ yX2_changedAt cX2_changedAt 4 (Option.some Jvm.ClassFile.FieldType.int)) := rfl
theorem y_X2_sumAnew : ax_Ym 351 = (yX2_sumAnew, ws_ yX2_sumAnew cX2_sumAnew 4 (Option.some Jvm.ClassFile.FieldType.int)) := rfl
theorem y_X20_set : ax_Ym 352 = (yX20_set, ws_ yX20_set cX20_set 4 (Option.none : Option Jvm.ClassFile.FieldType)) := rfl
theorem y_X20_take : ax_Ym 353 = (yX20_take, ws_ yX20_take cX20_take 3 (Option.none : Option Jvm.ClassFile.FieldType)) := rfl
theorem y_X20_value : ax_Ym 354 = (yX20_value, ws_ yX20_value cX20_value 4 (Option.some Jvm.ClassFile.FieldType.int)) := rfl
theorem y_X20_point : ax_Ym 355 = (yX20_point, ws_ yX20_point cX20_point 3 (Option.none : Option Jvm.ClassFile.FieldType)) := rfl
theorem y_X20_begin : ax_Ym 356 = (yX20_begin, ws_ yX20_begin cX20_begin 3 (Option.some (Jvm.ClassFile.FieldType.object "KernelGym$Use"))) := rfl
theorem y_X20_init : ax_Ym 357 = (yX20_init, ws_ yX20_init cX20_init 2 (Option.none : Option Jvm.ClassFile.FieldType)) := rfl
theorem y_X21_init : ax_Ym 358 = (yX21_init, ws_ yX21_init cX21_init 1 (Option.none : Option Jvm.ClassFile.FieldType)) := rfl
theorem y_X21_note : ax_Ym 359 = (yX21_note, ws_ yX21_note cX21_note 4 (Option.none : Option Jvm.ClassFile.FieldType)) := rfl
theorem y_X21_has : ax_Ym 360 = (yX21_has, ws_ yX21_has cX21_has 4 (Option.some Jvm.ClassFile.FieldType.boolean)) := rfl
theorem y_X22_init : ax_Ym 361 = (yX22_init, ws_ yX22_init cX22_init 2 (Option.none : Option Jvm.ClassFile.FieldType)) := rfl
theorem y_X23_init : ax_Ym 362 = (yX23_init, ws_ yX23_init cX23_init 2 (Option.none : Option Jvm.ClassFile.FieldType)) := rfl
theorem y_X24_init : ax_Ym 363 = (yX24_init, ws_ yX24_init cX24_init 2 (Option.none : Option Jvm.ClassFile.FieldType)) := rfl
theorem y_X25_init : ax_Ym 364 = (yX25_init, ws_ yX25_init cX25_init 1 (Option.none : Option Jvm.ClassFile.FieldType)) := rfl
theorem y_X26_init : ax_Ym 365 = (yX26_init, ws_ yX26_init cX26_init 3 (Option.none : Option Jvm.ClassFile.FieldType)) := rfl
theorem y_X27_worth : ax_Ym 366 = (yX27_worth, ws_ yX27_worth cX27_worth 1 (Option.some Jvm.ClassFile.FieldType.int)) := rfl
theorem y_X27_init : ax_Ym 367 = (yX27_init, ws_ yX27_init cX27_init 7 (Option.none : Option Jvm.ClassFile.FieldType)) := rfl
theorem y_X27_make : ax_Ym 368 = (yX27_make, ws_ yX27_make cX27_make 7 (Option.none : Option Jvm.ClassFile.FieldType)) := rfl
theorem y_X27_resultOf : ax_Ym 369 = (yX27_resultOf, ws_ yX27_resultOf cX27_resultOf 4 (Option.some Jvm.ClassFile.FieldType.int)) := rfl
theorem y_X3_init : ax_Ym 370 = (yX3_init, ws_ yX3_init cX3_init 1 (Option.none : Option Jvm.ClassFile.FieldType)) := rfl
theorem y_X3_formats : ax_Ym 371 = (yX3_formats, ws_ yX3_formats cX3_formats 2 (Option.none : Option Jvm.ClassFile.FieldType)) := rfl
theorem y_X3_thrown : ax_Ym 372 = (yX3_thrown, ws_ yX3_thrown cX3_thrown 1 (Option.some Jvm.ClassFile.FieldType.int)) := rfl
theorem y_X3_clear : ax_Ym 373 = (yX3_clear, ws_ yX3_clear cX3_clear 2 (Option.some Jvm.ClassFile.FieldType.int)) := rfl
theorem y_X3_lines : ax_Ym 374 = (yX3_lines, ws_ yX3_lines cX3_lines 1 (Option.some Jvm.ClassFile.FieldType.int)) := rfl
theorem y_X3_section : ax_Ym 375 = (yX3_section, ws_ yX3_section cX3_section 2 (Option.some Jvm.ClassFile.FieldType.int)) := rfl
theorem y_X3_in : ax_Ym 376 = (yX3_in, ws_ yX3_in cX3_in 3 (Option.some Jvm.ClassFile.FieldType.boolean)) := rfl
theorem y_X3_adds : ax_Ym 377 = (yX3_adds, ws_ yX3_adds cX3_adds 8 (Option.some Jvm.ClassFile.FieldType.int)) := rfl
theorem y_X3_holds : ax_Ym 378 = (yX3_holds, ws_ yX3_holds cX3_holds 2 (Option.some Jvm.ClassFile.FieldType.boolean)) := rfl
theorem y_X3_label : ax_Ym 379 = (yX3_label, ws_ yX3_label cX3_label 2 (Option.some Jvm.ClassFile.FieldType.int)) := rfl
theorem y_X3_code : ax_Ym 380 = (yX3_code, ws_ yX3_code cX3_code 7 (Option.some Jvm.ClassFile.FieldType.int)) := rfl
theorem y_X3_isOperand : ax_Ym 381 = (yX3_isOperand, ws_ yX3_isOperand cX3_isOperand 2 (Option.some Jvm.ClassFile.FieldType.boolean)) := rfl
theorem y_X3_word : ax_Ym 382 = (yX3_word, ws_ yX3_word cX3_word 3 (Option.some Jvm.ClassFile.FieldType.int)) := rfl
theorem y_X3_space : ax_Ym 383 = (yX3_space, ws_ yX3_space cX3_space 2 (Option.some Jvm.ClassFile.FieldType.int)) := rfl
theorem y_X3_vector : ax_Ym 384 = (yX3_vector, ws_ yX3_vector cX3_vector 4 (Option.some Jvm.ClassFile.FieldType.int)) := rfl
theorem y_X3_macro : ax_Ym 385 = (yX3_macro, ws_ yX3_macro cX3_macro 2 (Option.some Jvm.ClassFile.FieldType.int)) := rfl
theorem y_X3_endMacro : ax_Ym 386 = (yX3_endMacro, ws_ yX3_endMacro cX3_endMacro 1 (Option.some Jvm.ClassFile.FieldType.int)) := rfl
theorem y_X3_use : ax_Ym 387 = (yX3_use, ws_ yX3_use cX3_use 7 (Option.some Jvm.ClassFile.FieldType.int)) := rfl
theorem y_X3_error : ax_Ym 388 = (yX3_error, ws_ yX3_error cX3_error 1 (Option.some Jvm.ClassFile.FieldType.int)) := rfl
theorem y_X3_errorOfSource : ax_Ym 389 = (yX3_errorOfSource, ws_ yX3_errorOfSource cX3_errorOfSource 2 (Option.some Jvm.ClassFile.FieldType.int)) := rfl
theorem y_X3_goesThrough : ax_Ym 390 = (yX3_goesThrough, ws_ yX3_goesThrough cX3_goesThrough 4 (Option.some Jvm.ClassFile.FieldType.int)) := rfl
theorem y_X3_goes : ax_Ym 391 = (yX3_goes, ws_ yX3_goes cX3_goes 5 (Option.some Jvm.ClassFile.FieldType.int)) := rfl
theorem y_X3_wordsOf : ax_Ym 392 = (yX3_wordsOf, ws_ yX3_wordsOf cX3_wordsOf 3 (Option.some Jvm.ClassFile.FieldType.int)) := rfl
theorem y_X3_begins : ax_Ym 393 = (yX3_begins, ws_ yX3_begins cX3_begins 4 (Option.some Jvm.ClassFile.FieldType.int)) := rfl
theorem y_X3_nextOf : ax_Ym 394 = (yX3_nextOf, ws_ yX3_nextOf cX3_nextOf 3 (Option.some Jvm.ClassFile.FieldType.int)) := rfl
theorem y_X3_usesMacro : ax_Ym 395 = (yX3_usesMacro, ws_ yX3_usesMacro cX3_usesMacro 8 (Option.some Jvm.ClassFile.FieldType.int)) := rfl
theorem y_X3_isGoneThrough : ax_Ym 396 = (yX3_isGoneThrough, ws_ yX3_isGoneThrough cX3_isGoneThrough 3 (Option.some Jvm.ClassFile.FieldType.boolean)) := rfl
theorem y_X3_value : ax_Ym 397 = (yX3_value, ws_ yX3_value cX3_value 4 (Option.some Jvm.ClassFile.FieldType.int)) := rfl
theorem y_X3_placeOf : ax_Ym 398 = (yX3_placeOf, ws_ yX3_placeOf cX3_placeOf 2 (Option.some Jvm.ClassFile.FieldType.int)) := rfl
theorem y_X3_builds : ax_Ym 399 = (yX3_builds, ws_ yX3_builds cX3_builds 5 (Option.some Jvm.ClassFile.FieldType.int)) := rfl
theorem y_X3_puts : ax_Ym 400 = (yX3_puts, ws_ yX3_puts cX3_puts 2 (Option.none : Option Jvm.ClassFile.FieldType)) := rfl
theorem y_X3_setsLabel : ax_Ym 401 = (yX3_setsLabel, ws_ yX3_setsLabel cX3_setsLabel 3 (Option.some Jvm.ClassFile.FieldType.int)) := rfl
theorem y_X3_assemble : ax_Ym 402 = (yX3_assemble, ws_ yX3_assemble cX3_assemble 2 (Option.some Jvm.ClassFile.FieldType.int)) := rfl
theorem y_X3_image : ax_Ym 403 = (yX3_image, ws_ yX3_image cX3_image 2 (Option.some Jvm.ClassFile.FieldType.int)) := rfl
theorem y_X3_start : ax_Ym 404 = (yX3_start, ws_ yX3_start cX3_start 2 (Option.some Jvm.ClassFile.FieldType.int)) := rfl
theorem y_X3_isMachine : ax_Ym 405 = (yX3_isMachine, ws_ yX3_isMachine cX3_isMachine 1 (Option.some Jvm.ClassFile.FieldType.boolean)) := rfl
theorem y_X3_mends : ax_Ym 406 = (yX3_mends, ws_ yX3_mends cX3_mends 3 (Option.some Jvm.ClassFile.FieldType.int)) := rfl
theorem y_X3_checkOfLog : ax_Ym 407 = (yX3_checkOfLog, ws_ yX3_checkOfLog cX3_checkOfLog 3 (Option.some Jvm.ClassFile.FieldType.int)) := rfl
theorem y_X3_writesHead : ax_Ym 408 = (yX3_writesHead, ws_ yX3_writesHead cX3_writesHead 4 (Option.none : Option Jvm.ClassFile.FieldType)) := rfl
theorem y_X3_copies : ax_Ym 409 = (yX3_copies, ws_ yX3_copies cX3_copies 3 (Option.none : Option Jvm.ClassFile.FieldType)) := rfl
theorem y_X3_wakes : ax_Ym 410 = (yX3_wakes, ws_ yX3_wakes cX3_wakes 3 (Option.none : Option Jvm.ClassFile.FieldType)) := rfl
theorem y_X3_sleeps : ax_Ym 411 = (yX3_sleeps, ws_ yX3_sleeps cX3_sleeps 2 (Option.none : Option Jvm.ClassFile.FieldType)) := rfl
theorem y_X3_crash : ax_Ym 412 = (yX3_crash, ws_ yX3_crash cX3_crash 2 (Option.some Jvm.ClassFile.FieldType.int)) := rfl
theorem y_X3_format : ax_Ym 413 = (yX3_format, ws_ yX3_format cX3_format 2 (Option.some Jvm.ClassFile.FieldType.int)) := rfl
theorem y_X3_filesOf : ax_Ym 414 = (yX3_filesOf, ws_ yX3_filesOf cX3_filesOf 3 (Option.some Jvm.ClassFile.FieldType.int)) := rfl
theorem y_X3_entry : ax_Ym 415 = (yX3_entry, ws_ yX3_entry cX3_entry 1 (Option.some Jvm.ClassFile.FieldType.int)) := rfl
theorem y_X3_step : ax_Ym 416 = (yX3_step, ws_ yX3_step cX3_step 3 (Option.some Jvm.ClassFile.FieldType.int)) := rfl
theorem y_X3_canStep : ax_Ym 417 = (yX3_canStep, ws_ yX3_canStep cX3_canStep 1 (Option.some Jvm.ClassFile.FieldType.boolean)) := rfl
theorem y_X3_stepsAndKeeps : ax_Ym 418 = (yX3_stepsAndKeeps, ws_ yX3_stepsAndKeeps cX3_stepsAndKeeps 1 (Option.none : Option Jvm.ClassFile.FieldType)) := rfl
theorem y_X3_stepsOnce : ax_Ym 419 = (yX3_stepsOnce, ws_ yX3_stepsOnce cX3_stepsOnce 1 (Option.none : Option Jvm.ClassFile.FieldType)) := rfl
theorem y_X3_writesBlock : ax_Ym 420 = (yX3_writesBlock, ws_ yX3_writesBlock cX3_writesBlock 5 (Option.none : Option Jvm.ClassFile.FieldType)) := rfl
theorem y_X3_interrupts : ax_Ym 421 = (yX3_interrupts, ws_ yX3_interrupts cX3_interrupts 2 (Option.none : Option Jvm.ClassFile.FieldType)) := rfl
theorem y_X3_faults : ax_Ym 422 = (yX3_faults, ws_ yX3_faults cX3_faults 2 (Option.none : Option Jvm.ClassFile.FieldType)) := rfl
theorem y_X3_pushes : ax_Ym 423 = (yX3_pushes, ws_ yX3_pushes cX3_pushes 2 (Option.none : Option Jvm.ClassFile.FieldType)) := rfl
theorem y_X3_writes : ax_Ym 424 = (yX3_writes, ws_ yX3_writes cX3_writes 3 (Option.none : Option Jvm.ClassFile.FieldType)) := rfl
theorem y_X3_keepsWrite : ax_Ym 425 = (yX3_keepsWrite, ws_ yX3_keepsWrite cX3_keepsWrite 2 (Option.none : Option Jvm.ClassFile.FieldType)) := rfl
theorem y_X3_instructs : ax_Ym 426 = (yX3_instructs, ws_ yX3_instructs cX3_instructs 6 (Option.none : Option Jvm.ClassFile.FieldType)) := rfl
theorem y_X3_faultOf : ax_Ym 427 = (yX3_faultOf, ws_ yX3_faultOf cX3_faultOf 5 (Option.some Jvm.ClassFile.FieldType.int)) := rfl
theorem y_X3_reckons : ax_Ym 428 = (yX3_reckons, ws_ yX3_reckons cX3_reckons 7 (Option.none : Option Jvm.ClassFile.FieldType)) := rfl
theorem y_X3_made : ax_Ym 429 = (yX3_made, ws_ yX3_made cX3_made 3 (Option.some Jvm.ClassFile.FieldType.long)) := rfl
theorem y_X3_shifted : ax_Ym 430 = (yX3_shifted, ws_ yX3_shifted cX3_shifted 3 (Option.some Jvm.ClassFile.FieldType.int)) := rfl
theorem y_X3_jumps : ax_Ym 431 = (yX3_jumps, ws_ yX3_jumps cX3_jumps 6 (Option.none : Option Jvm.ClassFile.FieldType)) := rfl
theorem y_X3_pulls : ax_Ym 432 = (yX3_pulls, ws_ yX3_pulls cX3_pulls 1 (Option.some Jvm.ClassFile.FieldType.int)) := rfl
theorem y_X3_others : ax_Ym 433 = (yX3_others, ws_ yX3_others cX3_others 5 (Option.none : Option Jvm.ClassFile.FieldType)) := rfl
theorem y_X3_calls : ax_Ym 434 = (yX3_calls, ws_ yX3_calls cX3_calls 6 (Option.none : Option Jvm.ClassFile.FieldType)) := rfl
theorem y_X3_find : ax_Ym 435 = (yX3_find, ws_ yX3_find cX3_find 3 (Option.some Jvm.ClassFile.FieldType.int)) := rfl
theorem y_X3_resultOf : ax_Ym 436 = (yX3_resultOf, ws_ yX3_resultOf cX3_resultOf 5 (Option.some Jvm.ClassFile.FieldType.int)) := rfl
theorem y_X3_freeBlock : ax_Ym 437 = (yX3_freeBlock, ws_ yX3_freeBlock cX3_freeBlock 2 (Option.some Jvm.ClassFile.FieldType.int)) := rfl
theorem y_X3_isUsed : ax_Ym 438 = (yX3_isUsed, ws_ yX3_isUsed cX3_isUsed 2 (Option.some Jvm.ClassFile.FieldType.boolean)) := rfl
theorem y_X3_blockOf : ax_Ym 439 = (yX3_blockOf, ws_ yX3_blockOf cX3_blockOf 4 (Option.some Jvm.ClassFile.FieldType.int)) := rfl
theorem y_X3_makesFile : ax_Ym 440 = (yX3_makesFile, ws_ yX3_makesFile cX3_makesFile 2 (Option.some Jvm.ClassFile.FieldType.int)) := rfl
theorem y_X3_blockOfEntry : ax_Ym 441 = (yX3_blockOfEntry, ws_ yX3_blockOfEntry cX3_blockOfEntry 1 (Option.some Jvm.ClassFile.FieldType.int)) := rfl
theorem y_X3_appends : ax_Ym 442 = (yX3_appends, ws_ yX3_appends cX3_appends 6 (Option.some Jvm.ClassFile.FieldType.int)) := rfl
theorem y_X3_turns : ax_Ym 443 = (yX3_turns, ws_ yX3_turns cX3_turns 2 (Option.none : Option Jvm.ClassFile.FieldType)) := rfl
theorem y_X3_replaces : ax_Ym 444 = (yX3_replaces, ws_ yX3_replaces cX3_replaces 3 (Option.some Jvm.ClassFile.FieldType.int)) := rfl
theorem y_X3_removes : ax_Ym 445 = (yX3_removes, ws_ yX3_removes cX3_removes 5 (Option.some Jvm.ClassFile.FieldType.int)) := rfl
theorem y_X3_renames : ax_Ym 446 = (yX3_renames, ws_ yX3_renames cX3_renames 4 (Option.some Jvm.ClassFile.FieldType.int)) := rfl
theorem y_X3_prepares : ax_Ym 447 = (yX3_prepares, ws_ yX3_prepares cX3_prepares 4 (Option.none : Option Jvm.ClassFile.FieldType)) := rfl
theorem y_X3_come : ax_Ym 448 = (yX3_come, ws_ yX3_come cX3_come 3 (Option.some Jvm.ClassFile.FieldType.int)) := rfl
theorem y_X3_keysCome : ax_Ym 449 = (yX3_keysCome, ws_ yX3_keysCome cX3_keysCome 2 (Option.none : Option Jvm.ClassFile.FieldType)) := rfl
theorem y_X3_runTo : ax_Ym 450 = (yX3_runTo, ws_ yX3_runTo cX3_runTo 5 (Option.some Jvm.ClassFile.FieldType.int)) := rfl
theorem y_X3_back : ax_Ym 451 = (yX3_back, ws_ yX3_back cX3_back 4 (Option.some Jvm.ClassFile.FieldType.int)) := rfl
theorem y_X3_makesAnew : ax_Ym 452 = (yX3_makesAnew, ws_ yX3_makesAnew cX3_makesAnew 3 (Option.none : Option Jvm.ClassFile.FieldType)) := rfl
theorem y_X3_press : ax_Ym 453 = (yX3_press, ws_ yX3_press cX3_press 3 (Option.some Jvm.ClassFile.FieldType.int)) := rfl
theorem y_X3_state : ax_Ym 454 = (yX3_state, ws_ yX3_state cX3_state 1 (Option.some Jvm.ClassFile.FieldType.int)) := rfl
theorem y_X3_fault : ax_Ym 455 = (yX3_fault, ws_ yX3_fault cX3_fault 1 (Option.some Jvm.ClassFile.FieldType.int)) := rfl
theorem y_X3_steps : ax_Ym 456 = (yX3_steps, ws_ yX3_steps cX3_steps 1 (Option.some Jvm.ClassFile.FieldType.int)) := rfl
theorem y_X3_kept : ax_Ym 457 = (yX3_kept, ws_ yX3_kept cX3_kept 1 (Option.some Jvm.ClassFile.FieldType.int)) := rfl
theorem y_X3_counter : ax_Ym 458 = (yX3_counter, ws_ yX3_counter cX3_counter 1 (Option.some Jvm.ClassFile.FieldType.int)) := rfl
theorem y_X3_stack : ax_Ym 459 = (yX3_stack, ws_ yX3_stack cX3_stack 1 (Option.some Jvm.ClassFile.FieldType.int)) := rfl
theorem y_X3_flags : ax_Ym 460 = (yX3_flags, ws_ yX3_flags cX3_flags 1 (Option.some Jvm.ClassFile.FieldType.int)) := rfl
theorem y_X3_flagsOf : ax_Ym 461 = (yX3_flagsOf, ws_ yX3_flagsOf cX3_flagsOf 1 (Option.some Jvm.ClassFile.FieldType.int)) := rfl
theorem y_X3_writesLeft : ax_Ym 462 = (yX3_writesLeft, ws_ yX3_writesLeft cX3_writesLeft 1 (Option.some Jvm.ClassFile.FieldType.int)) := rfl
theorem y_X3_register : ax_Ym 463 = (yX3_register, ws_ yX3_register cX3_register 2 (Option.some Jvm.ClassFile.FieldType.int)) := rfl
theorem y_X3_memory : ax_Ym 464 = (yX3_memory, ws_ yX3_memory cX3_memory 2 (Option.some Jvm.ClassFile.FieldType.int)) := rfl
theorem y_X3_isAddress : ax_Ym 465 = (yX3_isAddress, ws_ yX3_isAddress cX3_isAddress 1 (Option.some Jvm.ClassFile.FieldType.boolean)) := rfl
theorem y_X3_changedAt : ax_Ym 466 = (yX3_changedAt, ws_ yX3_changedAt cX3_changedAt 3 (Option.some Jvm.ClassFile.FieldType.int)) := rfl
theorem y_X3_tape : ax_Ym 467 = (yX3_tape, ws_ yX3_tape cX3_tape 1 (Option.some Jvm.ClassFile.FieldType.int)) := rfl
theorem y_X3_tapeAt : ax_Ym 468 = (yX3_tapeAt, ws_ yX3_tapeAt cX3_tapeAt 2 (Option.some Jvm.ClassFile.FieldType.int)) := rfl
theorem y_X3_sum : ax_Ym 469 = (yX3_sum, ws_ yX3_sum cX3_sum 1 (Option.some Jvm.ClassFile.FieldType.int)) := rfl
theorem y_X3_sumOf : ax_Ym 470 = (yX3_sumOf, ws_ yX3_sumOf cX3_sumOf 3 (Option.some Jvm.ClassFile.FieldType.int)) := rfl
theorem y_X3_added : ax_Ym 471 = (yX3_added, ws_ yX3_added cX3_added 2 (Option.some Jvm.ClassFile.FieldType.int)) := rfl
theorem y_X3_sumAnew : ax_Ym 472 = (yX3_sumAnew, ws_ yX3_sumAnew cX3_sumAnew 4 (Option.some Jvm.ClassFile.FieldType.int)) := rfl
theorem y_X3_written : ax_Ym 473 = (yX3_written, ws_ yX3_written cX3_written 1 (Option.some Jvm.ClassFile.FieldType.int)) := rfl
theorem y_X3_disk : ax_Ym 474 = (yX3_disk, ws_ yX3_disk cX3_disk 3 (Option.some Jvm.ClassFile.FieldType.int)) := rfl
theorem y_X3_files : ax_Ym 475 = (yX3_files, ws_ yX3_files cX3_files 1 (Option.some Jvm.ClassFile.FieldType.int)) := rfl
theorem y_X3_size : ax_Ym 476 = (yX3_size, ws_ yX3_size cX3_size 2 (Option.some Jvm.ClassFile.FieldType.int)) := rfl
theorem y_X3_errorOfName : ax_Ym 477 = (yX3_errorOfName, ws_ yX3_errorOfName cX3_errorOfName 2 (Option.some Jvm.ClassFile.FieldType.int)) := rfl
theorem y_X3_wordOf : ax_Ym 478 = (yX3_wordOf, ws_ yX3_wordOf cX3_wordOf 5 (Option.some Jvm.ClassFile.FieldType.int)) := rfl
theorem y_X3_freeBlocks : ax_Ym 479 = (yX3_freeBlocks, ws_ yX3_freeBlocks cX3_freeBlocks 3 (Option.some Jvm.ClassFile.FieldType.int)) := rfl
theorem y_X3_isWhole : ax_Ym 480 = (yX3_isWhole, ws_ yX3_isWhole cX3_isWhole 1 (Option.some Jvm.ClassFile.FieldType.boolean)) := rfl
theorem y_X3_isWholeNow : ax_Ym 481 = (yX3_isWholeNow, ws_ yX3_isWholeNow cX3_isWholeNow 6 (Option.some Jvm.ClassFile.FieldType.boolean)) := rfl
theorem y_X3_isEntrySo : ax_Ym 482 = (yX3_isEntrySo, ws_ yX3_isEntrySo cX3_isEntrySo 6 (Option.some Jvm.ClassFile.FieldType.boolean)) := rfl
theorem y_X3_testKey : ax_Ym 483 = (yX3_testKey, ws_ yX3_testKey cX3_testKey 2 (Option.some Jvm.ClassFile.FieldType.int)) := rfl
theorem y_X3_testWord : ax_Ym 484 = (yX3_testWord, ws_ yX3_testWord cX3_testWord 2 (Option.some Jvm.ClassFile.FieldType.int)) := rfl
theorem y_X3_addTest : ax_Ym 485 = (yX3_addTest, ws_ yX3_addTest cX3_addTest 7 (Option.some Jvm.ClassFile.FieldType.int)) := rfl
theorem y_X3_tests : ax_Ym 486 = (yX3_tests, ws_ yX3_tests cX3_tests 1 (Option.some Jvm.ClassFile.FieldType.int)) := rfl
theorem y_X3_submit : ax_Ym 487 = (yX3_submit, ws_ yX3_submit cX3_submit 7 (Option.some Jvm.ClassFile.FieldType.int)) := rfl
theorem y_X3_madeTest : ax_Ym 488 = (yX3_madeTest, ws_ yX3_madeTest cX3_madeTest 3 (Option.some Jvm.ClassFile.FieldType.int)) := rfl
theorem y_X3_isTapeOf : ax_Ym 489 = (yX3_isTapeOf, ws_ yX3_isTapeOf cX3_isTapeOf 4 (Option.some Jvm.ClassFile.FieldType.boolean)) := rfl
theorem y_X3_result : ax_Ym 490 = (yX3_result, ws_ yX3_result cX3_result 2 (Option.some Jvm.ClassFile.FieldType.int)) := rfl
theorem y_X3_mark : ax_Ym 491 = (yX3_mark, ws_ yX3_mark cX3_mark 3 (Option.some Jvm.ClassFile.FieldType.int)) := rfl
theorem y_X4_endsMacro : ax_Ym 492 = (yX4_endsMacro, ws_ yX4_endsMacro cX4_endsMacro 1 (Option.some Jvm.ClassFile.FieldType.boolean)) := rfl
theorem y_X4_beginsMacro : ax_Ym 493 = (yX4_beginsMacro, ws_ yX4_beginsMacro cX4_beginsMacro 1 (Option.some Jvm.ClassFile.FieldType.boolean)) := rfl
theorem y_X4_init : ax_Ym 494 = (yX4_init, ws_ yX4_init cX4_init 1 (Option.none : Option Jvm.ClassFile.FieldType)) := rfl
theorem y_X5_go : ax_Ym 495 = (yX5_go, ws_ yX5_go cX5_go 4 (Option.some Jvm.ClassFile.FieldType.int)) := rfl
theorem y_X5_init : ax_Ym 496 = (yX5_init, ws_ yX5_init cX5_init 3 (Option.none : Option Jvm.ClassFile.FieldType)) := rfl
theorem y_X6_go : ax_Ym 497 = (yX6_go, ws_ yX6_go cX6_go 4 (Option.some Jvm.ClassFile.FieldType.int)) := rfl
theorem y_X6_init : ax_Ym 498 = (yX6_init, ws_ yX6_init cX6_init 3 (Option.none : Option Jvm.ClassFile.FieldType)) := rfl
theorem y_X7_init : ax_Ym 499 = (yX7_init, ws_ yX7_init cX7_init 3 (Option.none : Option Jvm.ClassFile.FieldType)) := rfl
theorem y_X8_go : ax_Ym 500 = (yX8_go, ws_ yX8_go cX8_go 4 (Option.some Jvm.ClassFile.FieldType.int)) := rfl
theorem y_X8_init : ax_Ym 501 = (yX8_init, ws_ yX8_init cX8_init 6 (Option.none : Option Jvm.ClassFile.FieldType)) := rfl
theorem y_X9_go : ax_Ym 502 = (yX9_go, ws_ yX9_go cX9_go 4 (Option.some Jvm.ClassFile.FieldType.int)) := rfl
theorem y_X9_init : ax_Ym 503 = (yX9_init, ws_ yX9_init cX9_init 3 (Option.none : Option Jvm.ClassFile.FieldType)) := rfl
abbrev M_J0_init : ax_M := (RJ0, cJ0_init, 1, (Option.none : Option Jvm.ClassFile.FieldType), true, [])
abbrev M_J1_init : ax_M := (RJ1, cJ1_init, 1, (Option.none : Option Jvm.ClassFile.FieldType), true, [])
abbrev M_J10_init : ax_M := (RJ10, cJ10_init, 2, (Option.none : Option Jvm.ClassFile.FieldType), true, [])
abbrev M_J10_init_2 : ax_M := (RJ10, cJ10_init_2, 3, (Option.none : Option Jvm.ClassFile.FieldType), true, [])
abbrev M_J11_newLength : ax_M := (RJ11, cJ11_newLength, 4, (Option.some Jvm.ClassFile.FieldType.int), false, [])
abbrev M_J13_copyOf : ax_M := (RJ13, cJ13_copyOf, 3, (Option.some (Jvm.ClassFile.FieldType.array Jvm.ClassFile.FieldType.byte)), false, [])
abbrev M_J13_copyOfRange : ax_M := (RJ13, cJ13_copyOfRange, 3, (Option.some (Jvm.ClassFile.FieldType.array Jvm.ClassFile.FieldType.byte)), false, [])
abbrev M_J13_copyOfRangeByte : ax_M := (RJ13, cJ13_copyOfRangeByte, 5, (Option.some (Jvm.ClassFile.FieldType.array Jvm.ClassFile.FieldType.byte)), false, [])
abbrev M_J13_checkLength : ax_M := (RJ13, cJ13_checkLength, 2, (Option.none : Option Jvm.ClassFile.FieldType), false, [])
abbrev M_J13_copyOf_2 : ax_M := (RJ13, cJ13_copyOf_2, 2, (Option.some (Jvm.ClassFile.FieldType.array (Jvm.ClassFile.FieldType.object "java/lang/Object"))), false, [])
abbrev M_J13_copyOf_3 : ax_M := (RJ13, cJ13_copyOf_3, 4, (Option.some (Jvm.ClassFile.FieldType.array (Jvm.ClassFile.FieldType.object "java/lang/Object"))), false, [])
abbrev M_J13_copyOf_4 : ax_M := (RJ13, cJ13_copyOf_4, 3, (Option.some (Jvm.ClassFile.FieldType.array Jvm.ClassFile.FieldType.long)), false, [])
abbrev M_J14_init : ax_M := (RJ14, cJ14_init, 4, (Option.none : Option Jvm.ClassFile.FieldType), true, [])
abbrev M_J15_init : ax_M := (RJ15, cJ15_init, 2, (Option.none : Option Jvm.ClassFile.FieldType), true, [])
abbrev M_J15_append : ax_M := (RJ15, cJ15_append, 3, (Option.some (Jvm.ClassFile.FieldType.object "java/lang/AbstractStringBuilde\x72")), false, [])
abbrev M_J15_ensureCapacityInternal : ax_M := (RJ15, cJ15_ensureCapacityInternal, 3, (Option.none : Option Jvm.ClassFile.FieldType), false, [])
abbrev M_J15_newCapacity : ax_M := (RJ15, cJ15_newCapacity, 6, (Option.some Jvm.ClassFile.FieldType.int), false, [])
abbrev M_J15_isLatin1 : ax_M := (RJ15, cJ15_isLatin1, 1, (Option.some Jvm.ClassFile.FieldType.boolean), false, [])
abbrev M_J15_putStringAt : ax_M := (RJ15, cJ15_putStringAt, 3, (Option.none : Option Jvm.ClassFile.FieldType), false, [])
abbrev M_J15_inflateIfNeededFor : ax_M := (RJ15, cJ15_inflateIfNeededFor, 2, (Option.none : Option Jvm.ClassFile.FieldType), false, [])
abbrev M_J15_append_2 : ax_M := (RJ15, cJ15_append_2, 4, (Option.some (Jvm.ClassFile.FieldType.object "java/lang/AbstractStringBuilde\x72")), false, [])
abbrev M_J15_getValue : ax_M := (RJ15, cJ15_getValue, 1, (Option.some (Jvm.ClassFile.FieldType.array Jvm.ClassFile.FieldType.byte)), false, [])
abbrev M_J15_length : ax_M := (RJ15, cJ15_length, 1, (Option.some Jvm.ClassFile.FieldType.int), false, [])
abbrev M_J16_init : ax_M := (RJ16, cJ16_init, 1, (Option.none : Option Jvm.ClassFile.FieldType), true, [])
abbrev M_J16_append : ax_M := (RJ16, cJ16_append, 2, (Option.some (Jvm.ClassFile.FieldType.object "java/lang/StringBuilde\x72")), false, [])
abbrev M_J16_append_2 : ax_M := (RJ16, cJ16_append_2, 2, (Option.some (Jvm.ClassFile.FieldType.object "java/lang/StringBuilde\x72")), false, [])
abbrev M_J16_toString : ax_M := (RJ16, cJ16_toString, 1, (Option.some (Jvm.ClassFile.FieldType.object "java/lang/String")), false, [])
abbrev M_J16_length : ax_M := (RJ16, cJ16_length, 1, (Option.some Jvm.ClassFile.FieldType.int), false, [])
abbrev M_J17_length : ax_M := (RJ17, cJ17_length, 1, (Option.some Jvm.ClassFile.FieldType.int), false, [])
abbrev M_J17_coder : ax_M := (RJ17, cJ17_coder, 1, (Option.some Jvm.ClassFile.FieldType.byte), false, [])
abbrev M_J17_getBytes : ax_M := (RJ17, cJ17_getBytes, 4, (Option.none : Option Jvm.ClassFile.FieldType), false, [])
abbrev M_J17_init : ax_M := (RJ17, cJ17_init, 2, (Option.none : Option Jvm.ClassFile.FieldType), true, [])
abbrev M_J17_init_2 : ax_M := (RJ17, cJ17_init_2, 5, (Option.none : Option Jvm.ClassFile.FieldType), true, [])
abbrev M_J19_checkIndex : ax_M := (RJ19, cJ19_checkIndex, 3, (Option.some Jvm.ClassFile.FieldType.int), false, [])
abbrev M_J2_init : ax_M := (RJ2, cJ2_init, 1, (Option.none : Option Jvm.ClassFile.FieldType), true, [])
abbrev M_J2_size : ax_M := (RJ2, cJ2_size, 1, (Option.some Jvm.ClassFile.FieldType.int), false, [])
abbrev M_J2_clear : ax_M := (RJ2, cJ2_clear, 4, (Option.none : Option Jvm.ClassFile.FieldType), false, [])
abbrev M_J2_get : ax_M := (RJ2, cJ2_get, 2, (Option.some (Jvm.ClassFile.FieldType.object "java/lang/Object")), false, [])
abbrev M_J2_elementData : ax_M := (RJ2, cJ2_elementData, 2, (Option.some (Jvm.ClassFile.FieldType.object "java/lang/Object")), false, [])
abbrev M_J2_add : ax_M := (RJ2, cJ2_add, 2, (Option.some Jvm.ClassFile.FieldType.boolean), false, [])
abbrev M_J2_add_2 : ax_M := (RJ2, cJ2_add_2, 4, (Option.none : Option Jvm.ClassFile.FieldType), false, [])
abbrev M_J2_grow : ax_M := (RJ2, cJ2_grow, 1, (Option.some (Jvm.ClassFile.FieldType.array (Jvm.ClassFile.FieldType.object "java/lang/Object"))), false, [])
abbrev M_J2_grow_2 : ax_M := (RJ2, cJ2_grow_2, 4, (Option.some (Jvm.ClassFile.FieldType.array (Jvm.ClassFile.FieldType.object "java/lang/Object"))), false, [])
abbrev M_J2_iterator : ax_M := (RJ2, cJ2_iterator, 1, (Option.some (Jvm.ClassFile.FieldType.object "java/util/Iterato\x72")), false, [])
abbrev M_J20_inflate : ax_M := (RJ20, cJ20_inflate, 5, (Option.none : Option Jvm.ClassFile.FieldType), false, [])
abbrev M_J21_init : ax_M := (RJ21, cJ21_init, 1, (Option.none : Option Jvm.ClassFile.FieldType), true, [])
abbrev M_J22_stringSize : ax_M := (RJ22, cJ22_stringSize, 4, (Option.some Jvm.ClassFile.FieldType.int), false, [])
abbrev M_J22_getChars : ax_M := (RJ22, cJ22_getChars, 7, (Option.some Jvm.ClassFile.FieldType.int), false, [])
abbrev M_J22_valueOf : ax_M := (RJ22, cJ22_valueOf, 1, (Option.some (Jvm.ClassFile.FieldType.object "java/lang/Intege\x72")), false, [])
abbrev M_J22_init : ax_M := (RJ22, cJ22_init, 2, (Option.none : Option Jvm.ClassFile.FieldType), true, [])
abbrev M_J22_intValue : ax_M := (RJ22, cJ22_intValue, 1, (Option.some Jvm.ClassFile.FieldType.int), false, [])
abbrev M_J23_checkIndex : ax_M := (RJ23, cJ23_checkIndex, 2, (Option.some Jvm.ClassFile.FieldType.int), false, [])
abbrev M_J24_init : ax_M := (RJ24, cJ24_init, 2, (Option.none : Option Jvm.ClassFile.FieldType), true, [])
abbrev M_J25_init_2 : ax_M := (RJ25, cJ25_init_2, 1, (Option.none : Option Jvm.ClassFile.FieldType), true, [])
abbrev M_J25_init_3 : ax_M := (RJ25, cJ25_init_3, 2, (Option.none : Option Jvm.ClassFile.FieldType), true, [])
abbrev M_J26_init : ax_M := (RJ26, cJ26_init, 3, (Option.none : Option Jvm.ClassFile.FieldType), true, [])
abbrev M_J26_hasNext : ax_M := (RJ26, cJ26_hasNext, 1, (Option.some Jvm.ClassFile.FieldType.boolean), false, [])
abbrev M_J26_next : ax_M := (RJ26, cJ26_next, 1, (Option.some (Jvm.ClassFile.FieldType.object "java/lang/Object")), false, [])
abbrev M_J26_checkForComodification : ax_M := (RJ26, cJ26_checkForComodification, 1, (Option.none : Option Jvm.ClassFile.FieldType), false, [])
abbrev M_J26_hasPrevious : ax_M := (RJ26, cJ26_hasPrevious, 1, (Option.some Jvm.ClassFile.FieldType.boolean), false, [])
abbrev M_J26_previous : ax_M := (RJ26, cJ26_previous, 1, (Option.some (Jvm.ClassFile.FieldType.object "java/lang/Object")), false, [])
abbrev M_J26_add : ax_M := (RJ26, cJ26_add, 2, (Option.none : Option Jvm.ClassFile.FieldType), false, [])
abbrev M_J28_hasNext : ax_M := (RJ28, cJ28_hasNext, 1, (Option.some Jvm.ClassFile.FieldType.boolean), false, [])
abbrev M_J28_init : ax_M := (RJ28, cJ28_init, 2, (Option.none : Option Jvm.ClassFile.FieldType), true, [])
abbrev M_J29_next : ax_M := (RJ29, cJ29_next, 3, (Option.some (Jvm.ClassFile.FieldType.object "java/lang/Object")), false, [])
abbrev M_J29_init : ax_M := (RJ29, cJ29_init, 2, (Option.none : Option Jvm.ClassFile.FieldType), true, [])
abbrev M_J3_init : ax_M := (RJ3, cJ3_init, 1, (Option.none : Option Jvm.ClassFile.FieldType), true, [])
abbrev M_J31_init : ax_M := (RJ31, cJ31_init, 2, (Option.none : Option Jvm.ClassFile.FieldType), true, [])
abbrev M_J31_initWords : ax_M := (RJ31, cJ31_initWords, 2, (Option.none : Option Jvm.ClassFile.FieldType), false, [])
abbrev M_J31_wordIndex : ax_M := (RJ31, cJ31_wordIndex, 1, (Option.some Jvm.ClassFile.FieldType.int), false, [])
abbrev M_J31_set : ax_M := (RJ31, cJ31_set, 10, (Option.none : Option Jvm.ClassFile.FieldType), false, [])
abbrev M_J31_checkRange : ax_M := (RJ31, cJ31_checkRange, 2, (Option.none : Option Jvm.ClassFile.FieldType), false, [])
abbrev M_J31_expandTo : ax_M := (RJ31, cJ31_expandTo, 3, (Option.none : Option Jvm.ClassFile.FieldType), false, [])
abbrev M_J31_ensureCapacity : ax_M := (RJ31, cJ31_ensureCapacity, 3, (Option.none : Option Jvm.ClassFile.FieldType), false, [])
abbrev M_J31_checkInvariants : ax_M := (RJ31, cJ31_checkInvariants, 1, (Option.none : Option Jvm.ClassFile.FieldType), false, [])
abbrev M_J31_get : ax_M := (RJ31, cJ31_get, 3, (Option.some Jvm.ClassFile.FieldType.boolean), false, [])
abbrev M_J31_set_2 : ax_M := (RJ31, cJ31_set_2, 3, (Option.none : Option Jvm.ClassFile.FieldType), false, [])
abbrev M_J32_init : ax_M := (RJ32, cJ32_init, 2, (Option.none : Option Jvm.ClassFile.FieldType), true, [])
abbrev M_J32_hasNext : ax_M := (RJ32, cJ32_hasNext, 1, (Option.some Jvm.ClassFile.FieldType.boolean), false, [])
abbrev M_J32_next : ax_M := (RJ32, cJ32_next, 3, (Option.some (Jvm.ClassFile.FieldType.object "java/lang/Object")), false, [])
abbrev M_J32_checkForComodification : ax_M := (RJ32, cJ32_checkForComodification, 1, (Option.none : Option Jvm.ClassFile.FieldType), false, [])
abbrev M_J4_init : ax_M := (RJ4, cJ4_init, 1, (Option.none : Option Jvm.ClassFile.FieldType), true, [])
abbrev M_J4_size : ax_M := (RJ4, cJ4_size, 1, (Option.some Jvm.ClassFile.FieldType.int), false, [])
abbrev M_J4_clear : ax_M := (RJ4, cJ4_clear, 3, (Option.none : Option Jvm.ClassFile.FieldType), false, [])
abbrev M_J4_get : ax_M := (RJ4, cJ4_get, 2, (Option.some (Jvm.ClassFile.FieldType.object "java/lang/Object")), false, [])
abbrev M_J4_checkElementIndex : ax_M := (RJ4, cJ4_checkElementIndex, 2, (Option.none : Option Jvm.ClassFile.FieldType), false, [])
abbrev M_J4_isElementIndex : ax_M := (RJ4, cJ4_isElementIndex, 2, (Option.some Jvm.ClassFile.FieldType.boolean), false, [])
abbrev M_J4_node : ax_M := (RJ4, cJ4_node, 4, (Option.some (Jvm.ClassFile.FieldType.object "java/util/LinkedList$Node")), false, [])
abbrev M_J4_linkLast : ax_M := (RJ4, cJ4_linkLast, 4, (Option.none : Option Jvm.ClassFile.FieldType), false, [])
abbrev M_J4_listIterator : ax_M := (RJ4, cJ4_listIterator, 2, (Option.some (Jvm.ClassFile.FieldType.object "java/util/ListIterato\x72")), false, [])
abbrev M_J4_checkPositionIndex : ax_M := (RJ4, cJ4_checkPositionIndex, 2, (Option.none : Option Jvm.ClassFile.FieldType), false, [])
abbrev M_J4_isPositionIndex : ax_M := (RJ4, cJ4_isPositionIndex, 2, (Option.some Jvm.ClassFile.FieldType.boolean), false, [])
abbrev M_J4_linkBefore : ax_M := (RJ4, cJ4_linkBefore, 5, (Option.none : Option Jvm.ClassFile.FieldType), false, [])
abbrev M_J4_addLast : ax_M := (RJ4, cJ4_addLast, 2, (Option.none : Option Jvm.ClassFile.FieldType), false, [])
abbrev M_J4_removeFirst : ax_M := (RJ4, cJ4_removeFirst, 2, (Option.some (Jvm.ClassFile.FieldType.object "java/lang/Object")), false, [])
abbrev M_J4_unlinkFirst : ax_M := (RJ4, cJ4_unlinkFirst, 4, (Option.some (Jvm.ClassFile.FieldType.object "java/lang/Object")), false, [])
abbrev M_J5_init : ax_M := (RJ5, cJ5_init, 1, (Option.none : Option Jvm.ClassFile.FieldType), true, [])
abbrev M_J5_size : ax_M := (RJ5, cJ5_size, 1, (Option.some Jvm.ClassFile.FieldType.int), false, [])
abbrev M_J5_sub : ax_M := (RJ5, cJ5_sub, 3, (Option.some Jvm.ClassFile.FieldType.int), false, [])
abbrev M_J5_nonNullElementAt : ax_M := (RJ5, cJ5_nonNullElementAt, 3, (Option.some (Jvm.ClassFile.FieldType.object "java/lang/Object")), false, [])
abbrev M_J5_dec : ax_M := (RJ5, cJ5_dec, 2, (Option.some Jvm.ClassFile.FieldType.int), false, [])
abbrev M_J5_clear : ax_M := (RJ5, cJ5_clear, 1, (Option.none : Option Jvm.ClassFile.FieldType), false, [])
abbrev M_J5_circularClear : ax_M := (RJ5, cJ5_circularClear, 4, (Option.none : Option Jvm.ClassFile.FieldType), false, [])
abbrev M_J5_addLast : ax_M := (RJ5, cJ5_addLast, 3, (Option.none : Option Jvm.ClassFile.FieldType), false, [])
abbrev M_J5_inc : ax_M := (RJ5, cJ5_inc, 2, (Option.some Jvm.ClassFile.FieldType.int), false, [])
abbrev M_J5_grow : ax_M := (RJ5, cJ5_grow, 9, (Option.none : Option Jvm.ClassFile.FieldType), false, [])
abbrev M_J5_newCapacity : ax_M := (RJ5, cJ5_newCapacity, 5, (Option.some Jvm.ClassFile.FieldType.int), false, [])
abbrev M_J5_removeFirst : ax_M := (RJ5, cJ5_removeFirst, 2, (Option.some (Jvm.ClassFile.FieldType.object "java/lang/Object")), false, [])
abbrev M_J5_pollFirst : ax_M := (RJ5, cJ5_pollFirst, 4, (Option.some (Jvm.ClassFile.FieldType.object "java/lang/Object")), false, [])
abbrev M_J5_elementAt : ax_M := (RJ5, cJ5_elementAt, 2, (Option.some (Jvm.ClassFile.FieldType.object "java/lang/Object")), false, [])
abbrev M_J5_isEmpty : ax_M := (RJ5, cJ5_isEmpty, 1, (Option.some Jvm.ClassFile.FieldType.boolean), false, [])
abbrev M_J5_removeLast : ax_M := (RJ5, cJ5_removeLast, 2, (Option.some (Jvm.ClassFile.FieldType.object "java/lang/Object")), false, [])
abbrev M_J5_pollLast : ax_M := (RJ5, cJ5_pollLast, 4, (Option.some (Jvm.ClassFile.FieldType.object "java/lang/Object")), false, [])
abbrev M_J5_peekLast : ax_M := (RJ5, cJ5_peekLast, 2, (Option.some (Jvm.ClassFile.FieldType.object "java/lang/Object")), false, [])
abbrev M_J5_descendingIterator : ax_M := (RJ5, cJ5_descendingIterator, 1, (Option.some (Jvm.ClassFile.FieldType.object "java/util/Iterato\x72")), false, [])
abbrev M_J6_init_2 : ax_M := (RJ6, cJ6_init_2, 2, (Option.none : Option Jvm.ClassFile.FieldType), true, [])
abbrev M_J6_init_4 : ax_M := (RJ6, cJ6_init_4, 3, (Option.none : Option Jvm.ClassFile.FieldType), true, [])
abbrev M_J7_init : ax_M := (RJ7, cJ7_init, 2, (Option.none : Option Jvm.ClassFile.FieldType), true, [])
abbrev M_J7_init_3 : ax_M := (RJ7, cJ7_init_3, 1, (Option.none : Option Jvm.ClassFile.FieldType), true, [])
abbrev M_J7_init_4 : ax_M := (RJ7, cJ7_init_4, 3, (Option.none : Option Jvm.ClassFile.FieldType), true, [])
abbrev M_J8_init : ax_M := (RJ8, cJ8_init, 2, (Option.none : Option Jvm.ClassFile.FieldType), true, [])
abbrev M_J8_init_3 : ax_M := (RJ8, cJ8_init_3, 1, (Option.none : Option Jvm.ClassFile.FieldType), true, [])
abbrev M_J8_init_4 : ax_M := (RJ8, cJ8_init_4, 3, (Option.none : Option Jvm.ClassFile.FieldType), true, [])
abbrev M_J9_init : ax_M := (RJ9, cJ9_init, 2, (Option.none : Option Jvm.ClassFile.FieldType), true, [])
abbrev M_L_law : ax_M := (RX0, cL_law, 7, (Option.some Jvm.ClassFile.FieldType.boolean), false, [])
abbrev M_X0_section : ax_M := (RX0, cX0_section, 4, (Option.some Jvm.ClassFile.FieldType.int), false, [(0, 9, 12, 13), (0, 9, 15, 15)])
abbrev M_X0_label : ax_M := (RX0, cX0_label, 4, (Option.some Jvm.ClassFile.FieldType.int), false, [(0, 9, 12, 13), (0, 9, 15, 15)])
abbrev M_X0_code : ax_M := (RX0, cX0_code, 8, (Option.some Jvm.ClassFile.FieldType.int), false, [(0, 16, 19, 13), (0, 16, 23, 15)])
abbrev M_X0_word : ax_M := (RX0, cX0_word, 5, (Option.some Jvm.ClassFile.FieldType.int), false, [(0, 10, 13, 13), (0, 10, 17, 15)])
abbrev M_X0_space : ax_M := (RX0, cX0_space, 4, (Option.some Jvm.ClassFile.FieldType.int), false, [(0, 9, 12, 13), (0, 9, 15, 15)])
abbrev M_X0_vector : ax_M := (RX0, cX0_vector, 6, (Option.some Jvm.ClassFile.FieldType.int), false, [(0, 12, 15, 13), (0, 12, 19, 15)])
abbrev M_X0_macro : ax_M := (RX0, cX0_macro, 4, (Option.some Jvm.ClassFile.FieldType.int), false, [(0, 9, 12, 13), (0, 9, 15, 15)])
abbrev M_X0_endMacro : ax_M := (RX0, cX0_endMacro, 3, (Option.some Jvm.ClassFile.FieldType.int), false, [(0, 8, 11, 15)])
abbrev M_X0_use : ax_M := (RX0, cX0_use, 8, (Option.some Jvm.ClassFile.FieldType.int), false, [(0, 16, 19, 13), (0, 16, 23, 15)])
abbrev M_X0_assemble : ax_M := (RX0, cX0_assemble, 3, (Option.some Jvm.ClassFile.FieldType.int), false, [(0, 8, 11, 15)])
abbrev M_X0_image : ax_M := (RX0, cX0_image, 4, (Option.some Jvm.ClassFile.FieldType.int), false, [(0, 9, 12, 13), (0, 9, 15, 15)])
abbrev M_X0_start : ax_M := (RX0, cX0_start, 3, (Option.some Jvm.ClassFile.FieldType.int), false, [(0, 8, 11, 15)])
abbrev M_X0_crash : ax_M := (RX0, cX0_crash, 3, (Option.some Jvm.ClassFile.FieldType.int), false, [(0, 8, 11, 15)])
abbrev M_X0_format : ax_M := (RX0, cX0_format, 3, (Option.some Jvm.ClassFile.FieldType.int), false, [(0, 8, 11, 15)])
abbrev M_X0_step : ax_M := (RX0, cX0_step, 4, (Option.some Jvm.ClassFile.FieldType.int), false, [(0, 9, 12, 13), (0, 9, 15, 15)])
abbrev M_X0_runTo : ax_M := (RX0, cX0_runTo, 5, (Option.some Jvm.ClassFile.FieldType.int), false, [(0, 10, 13, 13), (0, 10, 17, 15)])
abbrev M_X0_back : ax_M := (RX0, cX0_back, 4, (Option.some Jvm.ClassFile.FieldType.int), false, [(0, 9, 12, 13), (0, 9, 15, 15)])
abbrev M_X0_press : ax_M := (RX0, cX0_press, 4, (Option.some Jvm.ClassFile.FieldType.int), false, [(0, 9, 12, 13), (0, 9, 15, 15)])
abbrev M_X0_register : ax_M := (RX0, cX0_register, 4, (Option.some Jvm.ClassFile.FieldType.int), false, [(0, 9, 12, 13)])
abbrev M_X0_memory : ax_M := (RX0, cX0_memory, 4, (Option.some Jvm.ClassFile.FieldType.int), false, [(0, 9, 12, 13)])
abbrev M_X0_changedAt : ax_M := (RX0, cX0_changedAt, 4, (Option.some Jvm.ClassFile.FieldType.int), false, [(0, 9, 12, 13)])
abbrev M_X0_tapeAt : ax_M := (RX0, cX0_tapeAt, 4, (Option.some Jvm.ClassFile.FieldType.int), false, [(0, 9, 12, 84)])
abbrev M_X0_sumAnew : ax_M := (RX0, cX0_sumAnew, 4, (Option.some Jvm.ClassFile.FieldType.int), false, [(0, 9, 12, 15), (0, 9, 15, 13)])
abbrev M_X0_disk : ax_M := (RX0, cX0_disk, 5, (Option.some Jvm.ClassFile.FieldType.int), false, [(0, 10, 13, 13)])
abbrev M_X0_size : ax_M := (RX0, cX0_size, 4, (Option.some Jvm.ClassFile.FieldType.int), false, [(0, 9, 12, 13), (0, 9, 15, 95)])
abbrev M_X0_wordOf : ax_M := (RX0, cX0_wordOf, 5, (Option.some Jvm.ClassFile.FieldType.int), false, [(0, 10, 13, 13), (0, 10, 17, 95), (0, 10, 21, 84)])
abbrev M_X0_testKey : ax_M := (RX0, cX0_testKey, 4, (Option.some Jvm.ClassFile.FieldType.int), false, [(0, 9, 12, 13), (0, 9, 15, 15)])
abbrev M_X0_testWord : ax_M := (RX0, cX0_testWord, 4, (Option.some Jvm.ClassFile.FieldType.int), false, [(0, 9, 12, 13), (0, 9, 15, 15)])
abbrev M_X0_addTest : ax_M := (RX0, cX0_addTest, 7, (Option.some Jvm.ClassFile.FieldType.int), false, [(0, 14, 17, 13), (0, 14, 21, 15)])
abbrev M_X0_submit : ax_M := (RX0, cX0_submit, 3, (Option.some Jvm.ClassFile.FieldType.int), false, [(0, 8, 11, 15)])
abbrev M_X0_result : ax_M := (RX0, cX0_result, 4, (Option.some Jvm.ClassFile.FieldType.int), false, [(0, 9, 12, 84)])
abbrev M_X1_init : ax_M := (RX1, cX1_init, 1, (Option.none : Option Jvm.ClassFile.FieldType), true, [])
abbrev M_X1_clear : ax_M := (RX1, cX1_clear, 2, (Option.some Jvm.ClassFile.FieldType.int), false, [])
abbrev M_X1_lines : ax_M := (RX1, cX1_lines, 1, (Option.some Jvm.ClassFile.FieldType.int), false, [])
abbrev M_X1_error : ax_M := (RX1, cX1_error, 2, (Option.some Jvm.ClassFile.FieldType.int), false, [(0, 19, 20, 1)])
abbrev M_X1_check : ax_M := (RX1, cX1_check, 3, (Option.none : Option Jvm.ClassFile.FieldType), false, [])
abbrev M_X1_cut : ax_M := (RX1, cX1_cut, 2, (Option.some Jvm.ClassFile.FieldType.int), false, [])
abbrev M_X1_state : ax_M := (RX1, cX1_state, 1, (Option.some Jvm.ClassFile.FieldType.int), false, [])
abbrev M_X1_fault : ax_M := (RX1, cX1_fault, 1, (Option.some Jvm.ClassFile.FieldType.int), false, [])
abbrev M_X1_steps : ax_M := (RX1, cX1_steps, 1, (Option.some Jvm.ClassFile.FieldType.int), false, [])
abbrev M_X1_kept : ax_M := (RX1, cX1_kept, 1, (Option.some Jvm.ClassFile.FieldType.int), false, [])
abbrev M_X1_counter : ax_M := (RX1, cX1_counter, 1, (Option.some Jvm.ClassFile.FieldType.int), false, [])
abbrev M_X1_stack : ax_M := (RX1, cX1_stack, 1, (Option.some Jvm.ClassFile.FieldType.int), false, [])
abbrev M_X1_flags : ax_M := (RX1, cX1_flags, 1, (Option.some Jvm.ClassFile.FieldType.int), false, [])
abbrev M_X1_writesLeft : ax_M := (RX1, cX1_writesLeft, 1, (Option.some Jvm.ClassFile.FieldType.int), false, [])
abbrev M_X1_tape : ax_M := (RX1, cX1_tape, 1, (Option.some Jvm.ClassFile.FieldType.int), false, [])
abbrev M_X1_sum : ax_M := (RX1, cX1_sum, 1, (Option.some Jvm.ClassFile.FieldType.int), false, [])
abbrev M_X1_written : ax_M := (RX1, cX1_written, 1, (Option.some Jvm.ClassFile.FieldType.int), false, [])
abbrev M_X1_files : ax_M := (RX1, cX1_files, 3, (Option.some Jvm.ClassFile.FieldType.int), false, [])
abbrev M_X1_freeBlocks : ax_M := (RX1, cX1_freeBlocks, 3, (Option.some Jvm.ClassFile.FieldType.int), false, [])
abbrev M_X1_isWhole : ax_M := (RX1, cX1_isWhole, 1, (Option.some Jvm.ClassFile.FieldType.boolean), false, [])
abbrev M_X1_tests : ax_M := (RX1, cX1_tests, 1, (Option.some Jvm.ClassFile.FieldType.int), false, [])
abbrev M_X1_mark : ax_M := (RX1, cX1_mark, 4, (Option.some Jvm.ClassFile.FieldType.int), false, [])
abbrev M_X1_section : ax_M := (RX1, cX1_section, 2, (Option.some Jvm.ClassFile.FieldType.int), false, [])
abbrev M_X1_in : ax_M := (RX1, cX1_in, 3, (Option.some Jvm.ClassFile.FieldType.int), false, [])
abbrev M_X1_add : ax_M := (RX1, cX1_add, 2, (Option.some Jvm.ClassFile.FieldType.int), false, [])
abbrev M_X1_must : ax_M := (RX1, cX1_must, 1, (Option.none : Option Jvm.ClassFile.FieldType), false, [])
abbrev M_X1_label : ax_M := (RX1, cX1_label, 2, (Option.some Jvm.ClassFile.FieldType.int), false, [])
abbrev M_X1_code : ax_M := (RX1, cX1_code, 7, (Option.some Jvm.ClassFile.FieldType.int), false, [])
abbrev M_X1_operand : ax_M := (RX1, cX1_operand, 2, (Option.some (Jvm.ClassFile.FieldType.object "KernelGym$Operand")), false, [])
abbrev M_X1_word : ax_M := (RX1, cX1_word, 4, (Option.some Jvm.ClassFile.FieldType.int), false, [])
abbrev M_X1_space : ax_M := (RX1, cX1_space, 2, (Option.some Jvm.ClassFile.FieldType.int), false, [])
abbrev M_X1_vector : ax_M := (RX1, cX1_vector, 5, (Option.some Jvm.ClassFile.FieldType.int), false, [])
abbrev M_X1_macro : ax_M := (RX1, cX1_macro, 2, (Option.some Jvm.ClassFile.FieldType.int), false, [])
abbrev M_X1_endMacro : ax_M := (RX1, cX1_endMacro, 1, (Option.some Jvm.ClassFile.FieldType.int), false, [])
abbrev M_X1_use : ax_M := (RX1, cX1_use, 8, (Option.some Jvm.ClassFile.FieldType.int), false, [])
abbrev M_X1_assemble : ax_M := (RX1, cX1_assemble, 2, (Option.some Jvm.ClassFile.FieldType.int), false, [(0, 21, 22, 1)])
abbrev M_X1_image : ax_M := (RX1, cX1_image, 2, (Option.some Jvm.ClassFile.FieldType.int), false, [])
abbrev M_X1_start : ax_M := (RX1, cX1_start, 1, (Option.some Jvm.ClassFile.FieldType.int), false, [])
abbrev M_X1_crash : ax_M := (RX1, cX1_crash, 1, (Option.some Jvm.ClassFile.FieldType.int), false, [])
abbrev M_X1_format : ax_M := (RX1, cX1_format, 2, (Option.some Jvm.ClassFile.FieldType.int), false, [])
abbrev M_X1_step : ax_M := (RX1, cX1_step, 3, (Option.some Jvm.ClassFile.FieldType.int), false, [])
abbrev M_X1_runTo : ax_M := (RX1, cX1_runTo, 5, (Option.some Jvm.ClassFile.FieldType.int), false, [])
abbrev M_X1_back : ax_M := (RX1, cX1_back, 2, (Option.some Jvm.ClassFile.FieldType.int), false, [])
abbrev M_X1_press : ax_M := (RX1, cX1_press, 2, (Option.some Jvm.ClassFile.FieldType.int), false, [])
abbrev M_X1_register : ax_M := (RX1, cX1_register, 2, (Option.some Jvm.ClassFile.FieldType.int), false, [])
abbrev M_X1_memory : ax_M := (RX1, cX1_memory, 2, (Option.some Jvm.ClassFile.FieldType.int), false, [])
abbrev M_X1_changedAt : ax_M := (RX1, cX1_changedAt, 2, (Option.some Jvm.ClassFile.FieldType.int), false, [])
abbrev M_X1_tapeAt : ax_M := (RX1, cX1_tapeAt, 2, (Option.some Jvm.ClassFile.FieldType.int), false, [])
abbrev M_X1_sumAnew : ax_M := (RX1, cX1_sumAnew, 2, (Option.some Jvm.ClassFile.FieldType.int), false, [])
abbrev M_X1_disk : ax_M := (RX1, cX1_disk, 3, (Option.some Jvm.ClassFile.FieldType.int), false, [])
abbrev M_X1_size : ax_M := (RX1, cX1_size, 2, (Option.some Jvm.ClassFile.FieldType.int), false, [])
abbrev M_X1_file : ax_M := (RX1, cX1_file, 3, (Option.some Jvm.ClassFile.FieldType.int), false, [])
abbrev M_X1_wordOf : ax_M := (RX1, cX1_wordOf, 4, (Option.some Jvm.ClassFile.FieldType.int), false, [])
abbrev M_X1_testKey : ax_M := (RX1, cX1_testKey, 2, (Option.some Jvm.ClassFile.FieldType.int), false, [])
abbrev M_X1_draft : ax_M := (RX1, cX1_draft, 2, (Option.some Jvm.ClassFile.FieldType.int), false, [])
abbrev M_X1_testWord : ax_M := (RX1, cX1_testWord, 2, (Option.some Jvm.ClassFile.FieldType.int), false, [])
abbrev M_X1_addTest : ax_M := (RX1, cX1_addTest, 5, (Option.some Jvm.ClassFile.FieldType.int), false, [])
abbrev M_X1_taken : ax_M := (RX1, cX1_taken, 3, (Option.some (Jvm.ClassFile.FieldType.array Jvm.ClassFile.FieldType.int)), false, [])
abbrev M_X1_submit : ax_M := (RX1, cX1_submit, 4, (Option.some Jvm.ClassFile.FieldType.int), false, [])
abbrev M_X1_result : ax_M := (RX1, cX1_result, 2, (Option.some Jvm.ClassFile.FieldType.int), false, [])
abbrev M_X10_go : ax_M := (RX10, cX10_go, 5, (Option.some Jvm.ClassFile.FieldType.int), false, [])
abbrev M_X10_init : ax_M := (RX10, cX10_init, 3, (Option.none : Option Jvm.ClassFile.FieldType), true, [])
abbrev M_X11_go : ax_M := (RX11, cX11_go, 4, (Option.some Jvm.ClassFile.FieldType.int), false, [])
abbrev M_X11_init : ax_M := (RX11, cX11_init, 4, (Option.none : Option Jvm.ClassFile.FieldType), true, [])
abbrev M_X12_go : ax_M := (RX12, cX12_go, 4, (Option.some Jvm.ClassFile.FieldType.int), false, [])
abbrev M_X12_beginsMacro : ax_M := (RX12, cX12_beginsMacro, 1, (Option.some Jvm.ClassFile.FieldType.boolean), false, [])
abbrev M_X12_init : ax_M := (RX12, cX12_init, 3, (Option.none : Option Jvm.ClassFile.FieldType), true, [])
abbrev M_X13_endsMacro : ax_M := (RX13, cX13_endsMacro, 1, (Option.some Jvm.ClassFile.FieldType.boolean), false, [])
abbrev M_X13_go : ax_M := (RX13, cX13_go, 4, (Option.some Jvm.ClassFile.FieldType.int), false, [])
abbrev M_X13_init : ax_M := (RX13, cX13_init, 2, (Option.none : Option Jvm.ClassFile.FieldType), true, [])
abbrev M_X14_go : ax_M := (RX14, cX14_go, 4, (Option.some Jvm.ClassFile.FieldType.int), false, [])
abbrev M_X14_init : ax_M := (RX14, cX14_init, 5, (Option.none : Option Jvm.ClassFile.FieldType), true, [])
abbrev M_X15_init : ax_M := (RX15, cX15_init, 3, (Option.none : Option Jvm.ClassFile.FieldType), true, [])
abbrev M_X15_rowOf : ax_M := (RX15, cX15_rowOf, 3, (Option.some (Jvm.ClassFile.FieldType.array Jvm.ClassFile.FieldType.int)), false, [])
abbrev M_X15_address : ax_M := (RX15, cX15_address, 5, (Option.some Jvm.ClassFile.FieldType.int), false, [])
abbrev M_X15_makeWords : ax_M := (RX15, cX15_makeWords, 2, (Option.none : Option Jvm.ClassFile.FieldType), false, [])
abbrev M_X16_init : ax_M := (RX16, cX16_init, 3, (Option.none : Option Jvm.ClassFile.FieldType), true, [])
abbrev M_X17_init : ax_M := (RX17, cX17_init, 3, (Option.none : Option Jvm.ClassFile.FieldType), true, [])
abbrev M_X17_go : ax_M := (RX17, cX17_go, 5, (Option.none : Option Jvm.ClassFile.FieldType), false, [])
abbrev M_X17_define : ax_M := (RX17, cX17_define, 4, (Option.some Jvm.ClassFile.FieldType.int), false, [])
abbrev M_X17_expand : ax_M := (RX17, cX17_expand, 9, (Option.none : Option Jvm.ClassFile.FieldType), false, [])
abbrev M_X18_init : ax_M := (RX18, cX18_init, 3, (Option.none : Option Jvm.ClassFile.FieldType), true, [])
abbrev M_X18_set : ax_M := (RX18, cX18_set, 5, (Option.none : Option Jvm.ClassFile.FieldType), false, [])
abbrev M_X18_take : ax_M := (RX18, cX18_take, 3, (Option.none : Option Jvm.ClassFile.FieldType), false, [])
abbrev M_X18_value : ax_M := (RX18, cX18_value, 4, (Option.some Jvm.ClassFile.FieldType.int), false, [])
abbrev M_X18_point : ax_M := (RX18, cX18_point, 3, (Option.none : Option Jvm.ClassFile.FieldType), false, [])
abbrev M_X18_begin : ax_M := (RX18, cX18_begin, 4, (Option.some (Jvm.ClassFile.FieldType.object "KernelGym$Use")), false, [])
abbrev M_X19_init : ax_M := (RX19, cX19_init, 3, (Option.none : Option Jvm.ClassFile.FieldType), true, [])
abbrev M_X19_told : ax_M := (RX19, cX19_told, 1, (Option.some Jvm.ClassFile.FieldType.int), false, [])
abbrev M_X2_init : ax_M := (RX2, cX2_init, 2, (Option.none : Option Jvm.ClassFile.FieldType), true, [])
abbrev M_X2_format : ax_M := (RX2, cX2_format, 2, (Option.none : Option Jvm.ClassFile.FieldType), false, [])
abbrev M_X2_flags : ax_M := (RX2, cX2_flags, 1, (Option.some Jvm.ClassFile.FieldType.int), false, [])
abbrev M_X2_writesLeft : ax_M := (RX2, cX2_writesLeft, 1, (Option.some Jvm.ClassFile.FieldType.int), false, [])
abbrev M_X2_sum : ax_M := (RX2, cX2_sum, 2, (Option.some Jvm.ClassFile.FieldType.int), false, [])
abbrev M_X2_added : ax_M := (RX2, cX2_added, 6, (Option.some Jvm.ClassFile.FieldType.int), false, [])
abbrev M_X2_joined : ax_M := (RX2, cX2_joined, 2, (Option.some Jvm.ClassFile.FieldType.int), false, [])
abbrev M_X2_entry : ax_M := (RX2, cX2_entry, 3, (Option.some Jvm.ClassFile.FieldType.int), false, [])
abbrev M_X2_isUsed : ax_M := (RX2, cX2_isUsed, 2, (Option.some Jvm.ClassFile.FieldType.boolean), false, [])
abbrev M_X2_isWhole : ax_M := (RX2, cX2_isWhole, 8, (Option.some Jvm.ClassFile.FieldType.boolean), false, [])
abbrev M_X2_find : ax_M := (RX2, cX2_find, 4, (Option.some Jvm.ClassFile.FieldType.int), false, [])
abbrev M_X2_isOn : ax_M := (RX2, cX2_isOn, 1, (Option.some Jvm.ClassFile.FieldType.boolean), false, [])
abbrev M_X2_start : ax_M := (RX2, cX2_start, 3, (Option.some Jvm.ClassFile.FieldType.int), false, [])
abbrev M_X2_mend : ax_M := (RX2, cX2_mend, 4, (Option.some Jvm.ClassFile.FieldType.int), false, [])
abbrev M_X2_logged : ax_M := (RX2, cX2_logged, 4, (Option.some Jvm.ClassFile.FieldType.int), false, [])
abbrev M_X2_begin : ax_M := (RX2, cX2_begin, 2, (Option.none : Option Jvm.ClassFile.FieldType), false, [])
abbrev M_X2_crash : ax_M := (RX2, cX2_crash, 3, (Option.some Jvm.ClassFile.FieldType.int), false, [])
abbrev M_X2_goesOn : ax_M := (RX2, cX2_goesOn, 1, (Option.some Jvm.ClassFile.FieldType.boolean), false, [])
abbrev M_X2_make : ax_M := (RX2, cX2_make, 2, (Option.none : Option Jvm.ClassFile.FieldType), false, [(50, 54, 57, 147), (50, 54, 57, 149), (50, 54, 77, 155), (50, 54, 77, 157)])
abbrev M_X2_act : ax_M := (RX2, cX2_act, 1, (Option.none : Option Jvm.ClassFile.FieldType), false, [])
abbrev M_X2_write : ax_M := (RX2, cX2_write, 3, (Option.none : Option Jvm.ClassFile.FieldType), false, [])
abbrev M_X2_writeBlock : ax_M := (RX2, cX2_writeBlock, 4, (Option.none : Option Jvm.ClassFile.FieldType), false, [])
abbrev M_X2_set : ax_M := (RX2, cX2_set, 3, (Option.none : Option Jvm.ClassFile.FieldType), false, [])
abbrev M_X2_writeHead : ax_M := (RX2, cX2_writeHead, 5, (Option.none : Option Jvm.ClassFile.FieldType), false, [])
abbrev M_X2_isWaiting : ax_M := (RX2, cX2_isWaiting, 1, (Option.some Jvm.ClassFile.FieldType.boolean), false, [])
abbrev M_X2_interrupt : ax_M := (RX2, cX2_interrupt, 2, (Option.none : Option Jvm.ClassFile.FieldType), false, [])
abbrev M_X2_room : ax_M := (RX2, cX2_room, 2, (Option.none : Option Jvm.ClassFile.FieldType), false, [])
abbrev M_X2_push : ax_M := (RX2, cX2_push, 2, (Option.none : Option Jvm.ClassFile.FieldType), false, [])
abbrev M_X2_instruct : ax_M := (RX2, cX2_instruct, 8, (Option.none : Option Jvm.ClassFile.FieldType), false, [])
abbrev M_X2_address : ax_M := (RX2, cX2_address, 1, (Option.some Jvm.ClassFile.FieldType.int), false, [])
abbrev M_X2_reckon : ax_M := (RX2, cX2_reckon, 7, (Option.none : Option Jvm.ClassFile.FieldType), false, [])
abbrev M_X2_move : ax_M := (RX2, cX2_move, 5, (Option.some Jvm.ClassFile.FieldType.int), false, [])
abbrev M_X2_held : ax_M := (RX2, cX2_held, 2, (Option.none : Option Jvm.ClassFile.FieldType), false, [])
abbrev M_X2_pull : ax_M := (RX2, cX2_pull, 2, (Option.some Jvm.ClassFile.FieldType.int), false, [])
abbrev M_X2_serve : ax_M := (RX2, cX2_serve, 6, (Option.some Jvm.ClassFile.FieldType.int), false, [])
abbrev M_X2_read : ax_M := (RX2, cX2_read, 2, (Option.some Jvm.ClassFile.FieldType.int), false, [])
abbrev M_X2_told : ax_M := (RX2, cX2_told, 6, (Option.some Jvm.ClassFile.FieldType.int), false, [])
abbrev M_X2_call : ax_M := (RX2, cX2_call, 5, (Option.some Jvm.ClassFile.FieldType.boolean), false, [])
abbrev M_X2_plan : ax_M := (RX2, cX2_plan, 6, (Option.some Jvm.ClassFile.FieldType.int), false, [])
abbrev M_X2_named : ax_M := (RX2, cX2_named, 2, (Option.some Jvm.ClassFile.FieldType.int), false, [])
abbrev M_X2_setEntry : ax_M := (RX2, cX2_setEntry, 4, (Option.none : Option Jvm.ClassFile.FieldType), false, [])
abbrev M_X2_draft : ax_M := (RX2, cX2_draft, 5, (Option.some (Jvm.ClassFile.FieldType.array Jvm.ClassFile.FieldType.int)), false, [])
abbrev M_X2_append : ax_M := (RX2, cX2_append, 9, (Option.some Jvm.ClassFile.FieldType.int), false, [])
abbrev M_X2_firstFree : ax_M := (RX2, cX2_firstFree, 3, (Option.some Jvm.ClassFile.FieldType.int), false, [])
abbrev M_X2_mark : ax_M := (RX2, cX2_mark, 5, (Option.none : Option Jvm.ClassFile.FieldType), false, [])
abbrev M_X2_wordOf : ax_M := (RX2, cX2_wordOf, 3, (Option.some Jvm.ClassFile.FieldType.int), false, [])
abbrev M_X2_remove : ax_M := (RX2, cX2_remove, 3, (Option.none : Option Jvm.ClassFile.FieldType), false, [])
abbrev M_X2_rename : ax_M := (RX2, cX2_rename, 5, (Option.some Jvm.ClassFile.FieldType.int), false, [])
abbrev M_X2_stop : ax_M := (RX2, cX2_stop, 2, (Option.none : Option Jvm.ClassFile.FieldType), false, [])
abbrev M_X2_pass : ax_M := (RX2, cX2_pass, 2, (Option.none : Option Jvm.ClassFile.FieldType), false, [])
abbrev M_X2_back : ax_M := (RX2, cX2_back, 5, (Option.some Jvm.ClassFile.FieldType.int), false, [])
abbrev M_X2_press : ax_M := (RX2, cX2_press, 5, (Option.none : Option Jvm.ClassFile.FieldType), false, [])
abbrev M_X2_changedAt : ax_M := (RX2, cX2_changedAt, 4, (Option.some Jvm.ClassFile.FieldType.int), false, [])
abbrev M_X2_sumAnew : ax_M := (RX2, cX2_sumAnew, 4, (Option.some Jvm.ClassFile.FieldType.int), false, [])
abbrev M_X20_set : ax_M := (RX20, cX20_set, 4, (Option.none : Option Jvm.ClassFile.FieldType), false, [])
abbrev M_X20_take : ax_M := (RX20, cX20_take, 3, (Option.none : Option Jvm.ClassFile.FieldType), false, [])
abbrev M_X20_value : ax_M := (RX20, cX20_value, 4, (Option.some Jvm.ClassFile.FieldType.int), false, [])
abbrev M_X20_point : ax_M := (RX20, cX20_point, 3, (Option.none : Option Jvm.ClassFile.FieldType), false, [])
abbrev M_X20_begin : ax_M := (RX20, cX20_begin, 3, (Option.some (Jvm.ClassFile.FieldType.object "KernelGym$Use")), false, [])
abbrev M_X20_init : ax_M := (RX20, cX20_init, 2, (Option.none : Option Jvm.ClassFile.FieldType), true, [])
abbrev M_X21_init : ax_M := (RX21, cX21_init, 1, (Option.none : Option Jvm.ClassFile.FieldType), true, [])
abbrev M_X21_note : ax_M := (RX21, cX21_note, 4, (Option.none : Option Jvm.ClassFile.FieldType), false, [])
abbrev M_X21_has : ax_M := (RX21, cX21_has, 4, (Option.some Jvm.ClassFile.FieldType.boolean), false, [])
abbrev M_X22_init : ax_M := (RX22, cX22_init, 2, (Option.none : Option Jvm.ClassFile.FieldType), true, [])
abbrev M_X23_init : ax_M := (RX23, cX23_init, 2, (Option.none : Option Jvm.ClassFile.FieldType), true, [])
abbrev M_X24_init : ax_M := (RX24, cX24_init, 2, (Option.none : Option Jvm.ClassFile.FieldType), true, [])
abbrev M_X25_init : ax_M := (RX25, cX25_init, 1, (Option.none : Option Jvm.ClassFile.FieldType), true, [])
abbrev M_X26_init : ax_M := (RX26, cX26_init, 3, (Option.none : Option Jvm.ClassFile.FieldType), true, [])
abbrev M_X27_worth : ax_M := (RX27, cX27_worth, 1, (Option.some Jvm.ClassFile.FieldType.int), false, [])
abbrev M_X27_init : ax_M := (RX27, cX27_init, 7, (Option.none : Option Jvm.ClassFile.FieldType), true, [])
abbrev M_X27_make : ax_M := (RX27, cX27_make, 7, (Option.none : Option Jvm.ClassFile.FieldType), false, [])
abbrev M_X27_resultOf : ax_M := (RX27, cX27_resultOf, 4, (Option.some Jvm.ClassFile.FieldType.int), false, [])
abbrev M_X3_init : ax_M := (RX3, cX3_init, 1, (Option.none : Option Jvm.ClassFile.FieldType), true, [])
abbrev M_X3_formats : ax_M := (RX3, cX3_formats, 2, (Option.none : Option Jvm.ClassFile.FieldType), false, [])
abbrev M_X3_thrown : ax_M := (RX3, cX3_thrown, 1, (Option.some Jvm.ClassFile.FieldType.int), false, [])
abbrev M_X3_clear : ax_M := (RX3, cX3_clear, 2, (Option.some Jvm.ClassFile.FieldType.int), false, [])
abbrev M_X3_lines : ax_M := (RX3, cX3_lines, 1, (Option.some Jvm.ClassFile.FieldType.int), false, [])
abbrev M_X3_section : ax_M := (RX3, cX3_section, 2, (Option.some Jvm.ClassFile.FieldType.int), false, [])
abbrev M_X3_in : ax_M := (RX3, cX3_in, 3, (Option.some Jvm.ClassFile.FieldType.boolean), false, [])
abbrev M_X3_adds : ax_M := (RX3, cX3_adds, 8, (Option.some Jvm.ClassFile.FieldType.int), false, [])
abbrev M_X3_holds : ax_M := (RX3, cX3_holds, 2, (Option.some Jvm.ClassFile.FieldType.boolean), false, [])
abbrev M_X3_label : ax_M := (RX3, cX3_label, 2, (Option.some Jvm.ClassFile.FieldType.int), false, [])
abbrev M_X3_code : ax_M := (RX3, cX3_code, 7, (Option.some Jvm.ClassFile.FieldType.int), false, [])
abbrev M_X3_isOperand : ax_M := (RX3, cX3_isOperand, 2, (Option.some Jvm.ClassFile.FieldType.boolean), false, [])
abbrev M_X3_word : ax_M := (RX3, cX3_word, 3, (Option.some Jvm.ClassFile.FieldType.int), false, [])
abbrev M_X3_space : ax_M := (RX3, cX3_space, 2, (Option.some Jvm.ClassFile.FieldType.int), false, [])
abbrev M_X3_vector : ax_M := (RX3, cX3_vector, 4, (Option.some Jvm.ClassFile.FieldType.int), false, [])
abbrev M_X3_macro : ax_M := (RX3, cX3_macro, 2, (Option.some Jvm.ClassFile.FieldType.int), false, [])
abbrev M_X3_endMacro : ax_M := (RX3, cX3_endMacro, 1, (Option.some Jvm.ClassFile.FieldType.int), false, [])
abbrev M_X3_use : ax_M := (RX3, cX3_use, 7, (Option.some Jvm.ClassFile.FieldType.int), false, [])
abbrev M_X3_error : ax_M := (RX3, cX3_error, 1, (Option.some Jvm.ClassFile.FieldType.int), false, [])
abbrev M_X3_errorOfSource : ax_M := (RX3, cX3_errorOfSource, 2, (Option.some Jvm.ClassFile.FieldType.int), false, [])
abbrev M_X3_goesThrough : ax_M := (RX3, cX3_goesThrough, 4, (Option.some Jvm.ClassFile.FieldType.int), false, [])
abbrev M_X3_goes : ax_M := (RX3, cX3_goes, 5, (Option.some Jvm.ClassFile.FieldType.int), false, [])
abbrev M_X3_wordsOf : ax_M := (RX3, cX3_wordsOf, 3, (Option.some Jvm.ClassFile.FieldType.int), false, [])
abbrev M_X3_begins : ax_M := (RX3, cX3_begins, 4, (Option.some Jvm.ClassFile.FieldType.int), false, [])
abbrev M_X3_nextOf : ax_M := (RX3, cX3_nextOf, 3, (Option.some Jvm.ClassFile.FieldType.int), false, [])
abbrev M_X3_usesMacro : ax_M := (RX3, cX3_usesMacro, 8, (Option.some Jvm.ClassFile.FieldType.int), false, [])
abbrev M_X3_isGoneThrough : ax_M := (RX3, cX3_isGoneThrough, 3, (Option.some Jvm.ClassFile.FieldType.boolean), false, [])
abbrev M_X3_value : ax_M := (RX3, cX3_value, 4, (Option.some Jvm.ClassFile.FieldType.int), false, [])
abbrev M_X3_placeOf : ax_M := (RX3, cX3_placeOf, 2, (Option.some Jvm.ClassFile.FieldType.int), false, [])
abbrev M_X3_builds : ax_M := (RX3, cX3_builds, 5, (Option.some Jvm.ClassFile.FieldType.int), false, [])
abbrev M_X3_puts : ax_M := (RX3, cX3_puts, 2, (Option.none : Option Jvm.ClassFile.FieldType), false, [])
abbrev M_X3_setsLabel : ax_M := (RX3, cX3_setsLabel, 3, (Option.some Jvm.ClassFile.FieldType.int), false, [])
abbrev M_X3_assemble : ax_M := (RX3, cX3_assemble, 2, (Option.some Jvm.ClassFile.FieldType.int), false, [])
abbrev M_X3_image : ax_M := (RX3, cX3_image, 2, (Option.some Jvm.ClassFile.FieldType.int), false, [])
abbrev M_X3_start : ax_M := (RX3, cX3_start, 2, (Option.some Jvm.ClassFile.FieldType.int), false, [])
abbrev M_X3_isMachine : ax_M := (RX3, cX3_isMachine, 1, (Option.some Jvm.ClassFile.FieldType.boolean), false, [])
abbrev M_X3_mends : ax_M := (RX3, cX3_mends, 3, (Option.some Jvm.ClassFile.FieldType.int), false, [])
abbrev M_X3_checkOfLog : ax_M := (RX3, cX3_checkOfLog, 3, (Option.some Jvm.ClassFile.FieldType.int), false, [])
abbrev M_X3_writesHead : ax_M := (RX3, cX3_writesHead, 4, (Option.none : Option Jvm.ClassFile.FieldType), false, [])
abbrev M_X3_copies : ax_M := (RX3, cX3_copies, 3, (Option.none : Option Jvm.ClassFile.FieldType), false, [])
abbrev M_X3_wakes : ax_M := (RX3, cX3_wakes, 3, (Option.none : Option Jvm.ClassFile.FieldType), false, [])
abbrev M_X3_sleeps : ax_M := (RX3, cX3_sleeps, 2, (Option.none : Option Jvm.ClassFile.FieldType), false, [])
abbrev M_X3_crash : ax_M := (RX3, cX3_crash, 2, (Option.some Jvm.ClassFile.FieldType.int), false, [])
abbrev M_X3_format : ax_M := (RX3, cX3_format, 2, (Option.some Jvm.ClassFile.FieldType.int), false, [])
abbrev M_X3_filesOf : ax_M := (RX3, cX3_filesOf, 3, (Option.some Jvm.ClassFile.FieldType.int), false, [])
abbrev M_X3_entry : ax_M := (RX3, cX3_entry, 1, (Option.some Jvm.ClassFile.FieldType.int), false, [])
abbrev M_X3_step : ax_M := (RX3, cX3_step, 3, (Option.some Jvm.ClassFile.FieldType.int), false, [])
abbrev M_X3_canStep : ax_M := (RX3, cX3_canStep, 1, (Option.some Jvm.ClassFile.FieldType.boolean), false, [])
abbrev M_X3_stepsAndKeeps : ax_M := (RX3, cX3_stepsAndKeeps, 1, (Option.none : Option Jvm.ClassFile.FieldType), false, [])
abbrev M_X3_stepsOnce : ax_M := (RX3, cX3_stepsOnce, 1, (Option.none : Option Jvm.ClassFile.FieldType), false, [])
abbrev M_X3_writesBlock : ax_M := (RX3, cX3_writesBlock, 5, (Option.none : Option Jvm.ClassFile.FieldType), false, [])
abbrev M_X3_interrupts : ax_M := (RX3, cX3_interrupts, 2, (Option.none : Option Jvm.ClassFile.FieldType), false, [])
abbrev M_X3_faults : ax_M := (RX3, cX3_faults, 2, (Option.none : Option Jvm.ClassFile.FieldType), false, [])
abbrev M_X3_pushes : ax_M := (RX3, cX3_pushes, 2, (Option.none : Option Jvm.ClassFile.FieldType), false, [])
abbrev M_X3_writes : ax_M := (RX3, cX3_writes, 3, (Option.none : Option Jvm.ClassFile.FieldType), false, [])
abbrev M_X3_keepsWrite : ax_M := (RX3, cX3_keepsWrite, 2, (Option.none : Option Jvm.ClassFile.FieldType), false, [])
abbrev M_X3_instructs : ax_M := (RX3, cX3_instructs, 6, (Option.none : Option Jvm.ClassFile.FieldType), false, [])
abbrev M_X3_faultOf : ax_M := (RX3, cX3_faultOf, 5, (Option.some Jvm.ClassFile.FieldType.int), false, [])
abbrev M_X3_reckons : ax_M := (RX3, cX3_reckons, 7, (Option.none : Option Jvm.ClassFile.FieldType), false, [])
abbrev M_X3_made : ax_M := (RX3, cX3_made, 3, (Option.some Jvm.ClassFile.FieldType.long), false, [])
abbrev M_X3_shifted : ax_M := (RX3, cX3_shifted, 3, (Option.some Jvm.ClassFile.FieldType.int), false, [])
abbrev M_X3_jumps : ax_M := (RX3, cX3_jumps, 6, (Option.none : Option Jvm.ClassFile.FieldType), false, [])
abbrev M_X3_pulls : ax_M := (RX3, cX3_pulls, 1, (Option.some Jvm.ClassFile.FieldType.int), false, [])
abbrev M_X3_others : ax_M := (RX3, cX3_others, 5, (Option.none : Option Jvm.ClassFile.FieldType), false, [])
abbrev M_X3_calls : ax_M := (RX3, cX3_calls, 6, (Option.none : Option Jvm.ClassFile.FieldType), false, [])
abbrev M_X3_find : ax_M := (RX3, cX3_find, 3, (Option.some Jvm.ClassFile.FieldType.int), false, [])
abbrev M_X3_resultOf : ax_M := (RX3, cX3_resultOf, 5, (Option.some Jvm.ClassFile.FieldType.int), false, [])
abbrev M_X3_freeBlock : ax_M := (RX3, cX3_freeBlock, 2, (Option.some Jvm.ClassFile.FieldType.int), false, [])
abbrev M_X3_isUsed : ax_M := (RX3, cX3_isUsed, 2, (Option.some Jvm.ClassFile.FieldType.boolean), false, [])
abbrev M_X3_blockOf : ax_M := (RX3, cX3_blockOf, 4, (Option.some Jvm.ClassFile.FieldType.int), false, [])
abbrev M_X3_makesFile : ax_M := (RX3, cX3_makesFile, 2, (Option.some Jvm.ClassFile.FieldType.int), false, [])
abbrev M_X3_blockOfEntry : ax_M := (RX3, cX3_blockOfEntry, 1, (Option.some Jvm.ClassFile.FieldType.int), false, [])
abbrev M_X3_appends : ax_M := (RX3, cX3_appends, 6, (Option.some Jvm.ClassFile.FieldType.int), false, [])
abbrev M_X3_turns : ax_M := (RX3, cX3_turns, 2, (Option.none : Option Jvm.ClassFile.FieldType), false, [])
abbrev M_X3_replaces : ax_M := (RX3, cX3_replaces, 3, (Option.some Jvm.ClassFile.FieldType.int), false, [])
abbrev M_X3_removes : ax_M := (RX3, cX3_removes, 5, (Option.some Jvm.ClassFile.FieldType.int), false, [])
abbrev M_X3_renames : ax_M := (RX3, cX3_renames, 4, (Option.some Jvm.ClassFile.FieldType.int), false, [])
abbrev M_X3_prepares : ax_M := (RX3, cX3_prepares, 4, (Option.none : Option Jvm.ClassFile.FieldType), false, [])
abbrev M_X3_come : ax_M := (RX3, cX3_come, 3, (Option.some Jvm.ClassFile.FieldType.int), false, [])
abbrev M_X3_keysCome : ax_M := (RX3, cX3_keysCome, 2, (Option.none : Option Jvm.ClassFile.FieldType), false, [])
abbrev M_X3_runTo : ax_M := (RX3, cX3_runTo, 5, (Option.some Jvm.ClassFile.FieldType.int), false, [])
abbrev M_X3_back : ax_M := (RX3, cX3_back, 4, (Option.some Jvm.ClassFile.FieldType.int), false, [])
abbrev M_X3_makesAnew : ax_M := (RX3, cX3_makesAnew, 3, (Option.none : Option Jvm.ClassFile.FieldType), false, [])
abbrev M_X3_press : ax_M := (RX3, cX3_press, 3, (Option.some Jvm.ClassFile.FieldType.int), false, [])
abbrev M_X3_state : ax_M := (RX3, cX3_state, 1, (Option.some Jvm.ClassFile.FieldType.int), false, [])
abbrev M_X3_fault : ax_M := (RX3, cX3_fault, 1, (Option.some Jvm.ClassFile.FieldType.int), false, [])
abbrev M_X3_steps : ax_M := (RX3, cX3_steps, 1, (Option.some Jvm.ClassFile.FieldType.int), false, [])
abbrev M_X3_kept : ax_M := (RX3, cX3_kept, 1, (Option.some Jvm.ClassFile.FieldType.int), false, [])
abbrev M_X3_counter : ax_M := (RX3, cX3_counter, 1, (Option.some Jvm.ClassFile.FieldType.int), false, [])
abbrev M_X3_stack : ax_M := (RX3, cX3_stack, 1, (Option.some Jvm.ClassFile.FieldType.int), false, [])
abbrev M_X3_flags : ax_M := (RX3, cX3_flags, 1, (Option.some Jvm.ClassFile.FieldType.int), false, [])
abbrev M_X3_flagsOf : ax_M := (RX3, cX3_flagsOf, 1, (Option.some Jvm.ClassFile.FieldType.int), false, [])
abbrev M_X3_writesLeft : ax_M := (RX3, cX3_writesLeft, 1, (Option.some Jvm.ClassFile.FieldType.int), false, [])
abbrev M_X3_register : ax_M := (RX3, cX3_register, 2, (Option.some Jvm.ClassFile.FieldType.int), false, [])
abbrev M_X3_memory : ax_M := (RX3, cX3_memory, 2, (Option.some Jvm.ClassFile.FieldType.int), false, [])
abbrev M_X3_isAddress : ax_M := (RX3, cX3_isAddress, 1, (Option.some Jvm.ClassFile.FieldType.boolean), false, [])
abbrev M_X3_changedAt : ax_M := (RX3, cX3_changedAt, 3, (Option.some Jvm.ClassFile.FieldType.int), false, [])
abbrev M_X3_tape : ax_M := (RX3, cX3_tape, 1, (Option.some Jvm.ClassFile.FieldType.int), false, [])
abbrev M_X3_tapeAt : ax_M := (RX3, cX3_tapeAt, 2, (Option.some Jvm.ClassFile.FieldType.int), false, [])
abbrev M_X3_sum : ax_M := (RX3, cX3_sum, 1, (Option.some Jvm.ClassFile.FieldType.int), false, [])
abbrev M_X3_sumOf : ax_M := (RX3, cX3_sumOf, 3, (Option.some Jvm.ClassFile.FieldType.int), false, [])
abbrev M_X3_added : ax_M := (RX3, cX3_added, 2, (Option.some Jvm.ClassFile.FieldType.int), false, [])
abbrev M_X3_sumAnew : ax_M := (RX3, cX3_sumAnew, 4, (Option.some Jvm.ClassFile.FieldType.int), false, [])
abbrev M_X3_written : ax_M := (RX3, cX3_written, 1, (Option.some Jvm.ClassFile.FieldType.int), false, [])
abbrev M_X3_disk : ax_M := (RX3, cX3_disk, 3, (Option.some Jvm.ClassFile.FieldType.int), false, [])
abbrev M_X3_files : ax_M := (RX3, cX3_files, 1, (Option.some Jvm.ClassFile.FieldType.int), false, [])
abbrev M_X3_size : ax_M := (RX3, cX3_size, 2, (Option.some Jvm.ClassFile.FieldType.int), false, [])
abbrev M_X3_errorOfName : ax_M := (RX3, cX3_errorOfName, 2, (Option.some Jvm.ClassFile.FieldType.int), false, [])
abbrev M_X3_wordOf : ax_M := (RX3, cX3_wordOf, 5, (Option.some Jvm.ClassFile.FieldType.int), false, [])
abbrev M_X3_freeBlocks : ax_M := (RX3, cX3_freeBlocks, 3, (Option.some Jvm.ClassFile.FieldType.int), false, [])
abbrev M_X3_isWhole : ax_M := (RX3, cX3_isWhole, 1, (Option.some Jvm.ClassFile.FieldType.boolean), false, [])
abbrev M_X3_isWholeNow : ax_M := (RX3, cX3_isWholeNow, 6, (Option.some Jvm.ClassFile.FieldType.boolean), false, [])
abbrev M_X3_isEntrySo : ax_M := (RX3, cX3_isEntrySo, 6, (Option.some Jvm.ClassFile.FieldType.boolean), false, [])
abbrev M_X3_testKey : ax_M := (RX3, cX3_testKey, 2, (Option.some Jvm.ClassFile.FieldType.int), false, [])
abbrev M_X3_testWord : ax_M := (RX3, cX3_testWord, 2, (Option.some Jvm.ClassFile.FieldType.int), false, [])
abbrev M_X3_addTest : ax_M := (RX3, cX3_addTest, 7, (Option.some Jvm.ClassFile.FieldType.int), false, [])
abbrev M_X3_tests : ax_M := (RX3, cX3_tests, 1, (Option.some Jvm.ClassFile.FieldType.int), false, [])
abbrev M_X3_submit : ax_M := (RX3, cX3_submit, 7, (Option.some Jvm.ClassFile.FieldType.int), false, [])
abbrev M_X3_madeTest : ax_M := (RX3, cX3_madeTest, 3, (Option.some Jvm.ClassFile.FieldType.int), false, [])
abbrev M_X3_isTapeOf : ax_M := (RX3, cX3_isTapeOf, 4, (Option.some Jvm.ClassFile.FieldType.boolean), false, [])
abbrev M_X3_result : ax_M := (RX3, cX3_result, 2, (Option.some Jvm.ClassFile.FieldType.int), false, [])
abbrev M_X3_mark : ax_M := (RX3, cX3_mark, 3, (Option.some Jvm.ClassFile.FieldType.int), false, [])
abbrev M_X4_endsMacro : ax_M := (RX4, cX4_endsMacro, 1, (Option.some Jvm.ClassFile.FieldType.boolean), false, [])
abbrev M_X4_beginsMacro : ax_M := (RX4, cX4_beginsMacro, 1, (Option.some Jvm.ClassFile.FieldType.boolean), false, [])
abbrev M_X4_init : ax_M := (RX4, cX4_init, 1, (Option.none : Option Jvm.ClassFile.FieldType), true, [])
abbrev M_X5_go : ax_M := (RX5, cX5_go, 4, (Option.some Jvm.ClassFile.FieldType.int), false, [])
abbrev M_X5_init : ax_M := (RX5, cX5_init, 3, (Option.none : Option Jvm.ClassFile.FieldType), true, [])
abbrev M_X6_go : ax_M := (RX6, cX6_go, 4, (Option.some Jvm.ClassFile.FieldType.int), false, [])
abbrev M_X6_init : ax_M := (RX6, cX6_init, 3, (Option.none : Option Jvm.ClassFile.FieldType), true, [])
abbrev M_X7_init : ax_M := (RX7, cX7_init, 3, (Option.none : Option Jvm.ClassFile.FieldType), true, [])
abbrev M_X8_go : ax_M := (RX8, cX8_go, 4, (Option.some Jvm.ClassFile.FieldType.int), false, [])
abbrev M_X8_init : ax_M := (RX8, cX8_init, 6, (Option.none : Option Jvm.ClassFile.FieldType), true, [])
abbrev M_X9_go : ax_M := (RX9, cX9_go, 4, (Option.some Jvm.ClassFile.FieldType.int), false, [])
abbrev M_X9_init : ax_M := (RX9, cX9_init, 3, (Option.none : Option Jvm.ClassFile.FieldType), true, [])
