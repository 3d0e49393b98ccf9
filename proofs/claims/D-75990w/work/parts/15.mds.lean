def mJ0_init : Md := (yJ0_init, cJ0_init, 1, (Option.none : Option Jvm.ClassFile.FieldType), [])
theorem ok_J0_init : MdOK mJ0_init 0 := ⟨⟨by decide +kernel, by decide +kernel, by decide +kernel⟩, by decide⟩
theorem mJ0_init_L : mJ0_init.2.2.1 = 1 := rfl
def mJ1_init : Md := (yJ1_init, cJ1_init, 1, (Option.none : Option Jvm.ClassFile.FieldType), [])
theorem ok_J1_init : MdOK mJ1_init 0 := ⟨⟨by decide +kernel, by decide +kernel, by decide +kernel⟩, by decide⟩
theorem mJ1_init_L : mJ1_init.2.2.1 = 1 := rfl
def mJ1_isEmpty : Md := (yJ1_isEmpty, cJ1_isEmpty, 1, (Option.some Jvm.ClassFile.FieldType.boolean), [])
theorem ok_J1_isEmpty : MdOK mJ1_isEmpty 0 := ⟨⟨by decide +kernel, by decide +kernel, by decide +kernel⟩, by decide⟩
theorem mJ1_isEmpty_L : mJ1_isEmpty.2.2.1 = 1 := rfl
def mJ1_removeLast : Md := (yJ1_removeLast, cJ1_removeLast, 2, (Option.some (Jvm.ClassFile.FieldType.object "java/lang/Object")), [])
theorem ok_J1_removeLast : MdOK mJ1_removeLast 0 := ⟨⟨by decide +kernel, by decide +kernel, by decide +kernel⟩, by decide⟩
theorem mJ1_removeLast_L : mJ1_removeLast.2.2.1 = 2 := rfl
def mJ1_pollLast : Md := (yJ1_pollLast, cJ1_pollLast, 4, (Option.some (Jvm.ClassFile.FieldType.object "java/lang/Object")), [])
theorem ok_J1_pollLast : MdOK mJ1_pollLast 0 := ⟨⟨by decide +kernel, by decide +kernel, by decide +kernel⟩, by decide⟩
theorem mJ1_pollLast_L : mJ1_pollLast.2.2.1 = 4 := rfl
def mJ1_dec : Md := (yJ1_dec, cJ1_dec, 2, (Option.some Jvm.ClassFile.FieldType.int), [])
theorem ok_J1_dec : MdOK mJ1_dec 2 := ⟨⟨by decide +kernel, by decide +kernel, by decide +kernel⟩, by decide⟩
theorem mJ1_dec_L : mJ1_dec.2.2.1 = 2 := rfl
def mJ1_elementAt : Md := (yJ1_elementAt, cJ1_elementAt, 2, (Option.some (Jvm.ClassFile.FieldType.object "java/lang/Object")), [])
theorem ok_J1_elementAt : MdOK mJ1_elementAt 2 := ⟨⟨by decide +kernel, by decide +kernel, by decide +kernel⟩, by decide⟩
theorem mJ1_elementAt_L : mJ1_elementAt.2.2.1 = 2 := rfl
def mJ1_size : Md := (yJ1_size, cJ1_size, 1, (Option.some Jvm.ClassFile.FieldType.int), [])
theorem ok_J1_size : MdOK mJ1_size 0 := ⟨⟨by decide +kernel, by decide +kernel, by decide +kernel⟩, by decide⟩
theorem mJ1_size_L : mJ1_size.2.2.1 = 1 := rfl
def mJ1_sub : Md := (yJ1_sub, cJ1_sub, 3, (Option.some Jvm.ClassFile.FieldType.int), [])
theorem ok_J1_sub : MdOK mJ1_sub 3 := ⟨⟨by decide +kernel, by decide +kernel, by decide +kernel⟩, by decide⟩
theorem mJ1_sub_L : mJ1_sub.2.2.1 = 3 := rfl
def mJ1_removeFirst : Md := (yJ1_removeFirst, cJ1_removeFirst, 2, (Option.some (Jvm.ClassFile.FieldType.object "java/lang/Object")), [])
theorem ok_J1_removeFirst : MdOK mJ1_removeFirst 0 := ⟨⟨by decide +kernel, by decide +kernel, by decide +kernel⟩, by decide⟩
theorem mJ1_removeFirst_L : mJ1_removeFirst.2.2.1 = 2 := rfl
def mJ1_pollFirst : Md := (yJ1_pollFirst, cJ1_pollFirst, 4, (Option.some (Jvm.ClassFile.FieldType.object "java/lang/Object")), [])
theorem ok_J1_pollFirst : MdOK mJ1_pollFirst 0 := ⟨⟨by decide +kernel, by decide +kernel, by decide +kernel⟩, by decide⟩
theorem mJ1_pollFirst_L : mJ1_pollFirst.2.2.1 = 4 := rfl
def mJ1_inc : Md := (yJ1_inc, cJ1_inc, 2, (Option.some Jvm.ClassFile.FieldType.int), [])
theorem ok_J1_inc : MdOK mJ1_inc 2 := ⟨⟨by decide +kernel, by decide +kernel, by decide +kernel⟩, by decide⟩
theorem mJ1_inc_L : mJ1_inc.2.2.1 = 2 := rfl
def mJ1_addLast : Md := (yJ1_addLast, cJ1_addLast, 3, (Option.none : Option Jvm.ClassFile.FieldType), [])
theorem ok_J1_addLast : MdOK mJ1_addLast 1 := ⟨⟨by decide +kernel, by decide +kernel, by decide +kernel⟩, by decide⟩
theorem mJ1_addLast_L : mJ1_addLast.2.2.1 = 3 := rfl
def mJ1_grow : Md := (yJ1_grow, cJ1_grow, 9, (Option.none : Option Jvm.ClassFile.FieldType), [])
theorem ok_J1_grow : MdOK mJ1_grow 1 := ⟨⟨by decide +kernel, by decide +kernel, by decide +kernel⟩, by decide⟩
theorem mJ1_grow_L : mJ1_grow.2.2.1 = 9 := rfl
def mJ1_newCapacity : Md := (yJ1_newCapacity, cJ1_newCapacity, 5, (Option.some Jvm.ClassFile.FieldType.int), [])
theorem ok_J1_newCapacity : MdOK mJ1_newCapacity 2 := ⟨⟨by decide +kernel, by decide +kernel, by decide +kernel⟩, by decide⟩
theorem mJ1_newCapacity_L : mJ1_newCapacity.2.2.1 = 5 := rfl
def mJ10_init : Md := (yJ10_init, cJ10_init, 1, (Option.none : Option Jvm.ClassFile.FieldType), [])
theorem ok_J10_init : MdOK mJ10_init 0 := ⟨⟨by decide +kernel, by decide +kernel, by decide +kernel⟩, by decide⟩
theorem mJ10_init_L : mJ10_init.2.2.1 = 1 := rfl
def mJ10_init_2 : Md := (yJ10_init_2, cJ10_init_2, 2, (Option.none : Option Jvm.ClassFile.FieldType), [])
theorem ok_J10_init_2 : MdOK mJ10_init_2 1 := ⟨⟨by decide +kernel, by decide +kernel, by decide +kernel⟩, by decide⟩
theorem mJ10_init_2_L : mJ10_init_2.2.2.1 = 2 := rfl
def mJ10_init_3 : Md := (yJ10_init_3, cJ10_init_3, 5, (Option.none : Option Jvm.ClassFile.FieldType), [])
theorem ok_J10_init_3 : MdOK mJ10_init_3 4 := ⟨⟨by decide +kernel, by decide +kernel, by decide +kernel⟩, by decide⟩
theorem mJ10_init_3_L : mJ10_init_3.2.2.1 = 5 := rfl
def mJ11_init : Md := (yJ11_init, cJ11_init, 2, (Option.none : Option Jvm.ClassFile.FieldType), [])
theorem ok_J11_init : MdOK mJ11_init 1 := ⟨⟨by decide +kernel, by decide +kernel, by decide +kernel⟩, by decide⟩
theorem mJ11_init_L : mJ11_init.2.2.1 = 2 := rfl
def mJ11_init_2 : Md := (yJ11_init_2, cJ11_init_2, 1, (Option.none : Option Jvm.ClassFile.FieldType), [])
theorem ok_J11_init_2 : MdOK mJ11_init_2 0 := ⟨⟨by decide +kernel, by decide +kernel, by decide +kernel⟩, by decide⟩
theorem mJ11_init_2_L : mJ11_init_2.2.2.1 = 1 := rfl
def mJ11_init_3 : Md := (yJ11_init_3, cJ11_init_3, 5, (Option.none : Option Jvm.ClassFile.FieldType), [])
theorem ok_J11_init_3 : MdOK mJ11_init_3 4 := ⟨⟨by decide +kernel, by decide +kernel, by decide +kernel⟩, by decide⟩
theorem mJ11_init_3_L : mJ11_init_3.2.2.1 = 5 := rfl
def mJ12_init : Md := (yJ12_init, cJ12_init, 2, (Option.none : Option Jvm.ClassFile.FieldType), [])
theorem ok_J12_init : MdOK mJ12_init 1 := ⟨⟨by decide +kernel, by decide +kernel, by decide +kernel⟩, by decide⟩
theorem mJ12_init_L : mJ12_init.2.2.1 = 2 := rfl
def mJ12_init_2 : Md := (yJ12_init_2, cJ12_init_2, 1, (Option.none : Option Jvm.ClassFile.FieldType), [])
theorem ok_J12_init_2 : MdOK mJ12_init_2 0 := ⟨⟨by decide +kernel, by decide +kernel, by decide +kernel⟩, by decide⟩
theorem mJ12_init_2_L : mJ12_init_2.2.2.1 = 1 := rfl
def mJ13_init : Md := (yJ13_init, cJ13_init, 2, (Option.none : Option Jvm.ClassFile.FieldType), [])
theorem ok_J13_init : MdOK mJ13_init 1 := ⟨⟨by decide +kernel, by decide +kernel, by decide +kernel⟩, by decide⟩
theorem mJ13_init_L : mJ13_init.2.2.1 = 2 := rfl
def mJ13_init_2 : Md := (yJ13_init_2, cJ13_init_2, 1, (Option.none : Option Jvm.ClassFile.FieldType), [])
theorem ok_J13_init_2 : MdOK mJ13_init_2 0 := ⟨⟨by decide +kernel, by decide +kernel, by decide +kernel⟩, by decide⟩
theorem mJ13_init_2_L : mJ13_init_2.2.2.1 = 1 := rfl
def mJ14_init : Md := (yJ14_init, cJ14_init, 2, (Option.none : Option Jvm.ClassFile.FieldType), [])
theorem ok_J14_init : MdOK mJ14_init 1 := ⟨⟨by decide +kernel, by decide +kernel, by decide +kernel⟩, by decide⟩
theorem mJ14_init_L : mJ14_init.2.2.1 = 2 := rfl
def mJ14_append : Md := (yJ14_append, cJ14_append, 3, (Option.some (Jvm.ClassFile.FieldType.object "java/lang/AbstractStringBuilder")), [])
theorem ok_J14_append : MdOK mJ14_append 1 := ⟨⟨by decide +kernel, by decide +kernel, by decide +kernel⟩, by decide⟩
theorem mJ14_append_L : mJ14_append.2.2.1 = 3 := rfl
def mJ14_appendNull : Md := (yJ14_appendNull, cJ14_appendNull, 3, (Option.some (Jvm.ClassFile.FieldType.object "java/lang/AbstractStringBuilder")), [])
theorem ok_J14_appendNull : MdOK mJ14_appendNull 0 := ⟨⟨by decide +kernel, by decide +kernel, by decide +kernel⟩, by decide⟩
theorem mJ14_appendNull_L : mJ14_appendNull.2.2.1 = 3 := rfl
def mJ14_ensureCapacityInternal : Md := (yJ14_ensureCapacityInternal, cJ14_ensureCapacityInternal, 3, (Option.none : Option Jvm.ClassFile.FieldType), [])
theorem ok_J14_ensureCapacityInternal : MdOK mJ14_ensureCapacityInternal 1 := ⟨⟨by decide +kernel, by decide +kernel, by decide +kernel⟩, by decide⟩
theorem mJ14_ensureCapacityInternal_L : mJ14_ensureCapacityInternal.2.2.1 = 3 := rfl
def mJ14_newCapacity : Md := (yJ14_newCapacity, cJ14_newCapacity, 6, (Option.some Jvm.ClassFile.FieldType.int), [])
theorem ok_J14_newCapacity : MdOK mJ14_newCapacity 1 := ⟨⟨by decide +kernel, by decide +kernel, by decide +kernel⟩, by decide⟩
theorem mJ14_newCapacity_L : mJ14_newCapacity.2.2.1 = 6 := rfl
def mJ14_isLatin1 : Md := (yJ14_isLatin1, cJ14_isLatin1, 1, (Option.some Jvm.ClassFile.FieldType.boolean), [])
theorem ok_J14_isLatin1 : MdOK mJ14_isLatin1 0 := ⟨⟨by decide +kernel, by decide +kernel, by decide +kernel⟩, by decide⟩
theorem mJ14_isLatin1_L : mJ14_isLatin1.2.2.1 = 1 := rfl
def mJ14_putStringAt : Md := (yJ14_putStringAt, cJ14_putStringAt, 3, (Option.none : Option Jvm.ClassFile.FieldType), [])
theorem ok_J14_putStringAt : MdOK mJ14_putStringAt 2 := ⟨⟨by decide +kernel, by decide +kernel, by decide +kernel⟩, by decide⟩
theorem mJ14_putStringAt_L : mJ14_putStringAt.2.2.1 = 3 := rfl
def mJ14_inflateIfNeededFor : Md := (yJ14_inflateIfNeededFor, cJ14_inflateIfNeededFor, 2, (Option.none : Option Jvm.ClassFile.FieldType), [])
theorem ok_J14_inflateIfNeededFor : MdOK mJ14_inflateIfNeededFor 1 := ⟨⟨by decide +kernel, by decide +kernel, by decide +kernel⟩, by decide⟩
theorem mJ14_inflateIfNeededFor_L : mJ14_inflateIfNeededFor.2.2.1 = 2 := rfl
def mJ14_inflate : Md := (yJ14_inflate, cJ14_inflate, 2, (Option.none : Option Jvm.ClassFile.FieldType), [])
theorem ok_J14_inflate : MdOK mJ14_inflate 0 := ⟨⟨by decide +kernel, by decide +kernel, by decide +kernel⟩, by decide⟩
theorem mJ14_inflate_L : mJ14_inflate.2.2.1 = 2 := rfl
def mJ14_append_2 : Md := (yJ14_append_2, cJ14_append_2, 4, (Option.some (Jvm.ClassFile.FieldType.object "java/lang/AbstractStringBuilder")), [])
theorem ok_J14_append_2 : MdOK mJ14_append_2 1 := ⟨⟨by decide +kernel, by decide +kernel, by decide +kernel⟩, by decide⟩
theorem mJ14_append_2_L : mJ14_append_2.2.2.1 = 4 := rfl
def mJ14_getValue : Md := (yJ14_getValue, cJ14_getValue, 1, (Option.some (Jvm.ClassFile.FieldType.array Jvm.ClassFile.FieldType.byte)), [])
theorem ok_J14_getValue : MdOK mJ14_getValue 0 := ⟨⟨by decide +kernel, by decide +kernel, by decide +kernel⟩, by decide⟩
theorem mJ14_getValue_L : mJ14_getValue.2.2.1 = 1 := rfl
def mJ14_length : Md := (yJ14_length, cJ14_length, 1, (Option.some Jvm.ClassFile.FieldType.int), [])
theorem ok_J14_length : MdOK mJ14_length 0 := ⟨⟨by decide +kernel, by decide +kernel, by decide +kernel⟩, by decide⟩
theorem mJ14_length_L : mJ14_length.2.2.1 = 1 := rfl
def mJ14_append_3 : Md := (yJ14_append_3, cJ14_append_3, 2, (Option.some (Jvm.ClassFile.FieldType.object "java/lang/AbstractStringBuilder")), [])
theorem ok_J14_append_3 : MdOK mJ14_append_3 1 := ⟨⟨by decide +kernel, by decide +kernel, by decide +kernel⟩, by decide⟩
theorem mJ14_append_3_L : mJ14_append_3.2.2.1 = 2 := rfl
def mJ14_compareTo : Md := (yJ14_compareTo, cJ14_compareTo, 6, (Option.some Jvm.ClassFile.FieldType.int), [])
theorem ok_J14_compareTo : MdOK mJ14_compareTo 1 := ⟨⟨by decide +kernel, by decide +kernel, by decide +kernel⟩, by decide⟩
theorem mJ14_compareTo_L : mJ14_compareTo.2.2.1 = 6 := rfl
def mJ15_init : Md := (yJ15_init, cJ15_init, 1, (Option.none : Option Jvm.ClassFile.FieldType), [])
theorem ok_J15_init : MdOK mJ15_init 0 := ⟨⟨by decide +kernel, by decide +kernel, by decide +kernel⟩, by decide⟩
theorem mJ15_init_L : mJ15_init.2.2.1 = 1 := rfl
def mJ15_append : Md := (yJ15_append, cJ15_append, 2, (Option.some (Jvm.ClassFile.FieldType.object "java/lang/StringBuilder")), [])
theorem ok_J15_append : MdOK mJ15_append 1 := ⟨⟨by decide +kernel, by decide +kernel, by decide +kernel⟩, by decide⟩
theorem mJ15_append_L : mJ15_append.2.2.1 = 2 := rfl
def mJ15_append_2 : Md := (yJ15_append_2, cJ15_append_2, 2, (Option.some (Jvm.ClassFile.FieldType.object "java/lang/StringBuilder")), [])
theorem ok_J15_append_2 : MdOK mJ15_append_2 1 := ⟨⟨by decide +kernel, by decide +kernel, by decide +kernel⟩, by decide⟩
theorem mJ15_append_2_L : mJ15_append_2.2.2.1 = 2 := rfl
def mJ15_toString : Md := (yJ15_toString, cJ15_toString, 1, (Option.some (Jvm.ClassFile.FieldType.object "java/lang/String")), [])
theorem ok_J15_toString : MdOK mJ15_toString 0 := ⟨⟨by decide +kernel, by decide +kernel, by decide +kernel⟩, by decide⟩
theorem mJ15_toString_L : mJ15_toString.2.2.1 = 1 := rfl
def mJ15_length : Md := (yJ15_length, cJ15_length, 1, (Option.some Jvm.ClassFile.FieldType.int), [])
theorem ok_J15_length : MdOK mJ15_length 0 := ⟨⟨by decide +kernel, by decide +kernel, by decide +kernel⟩, by decide⟩
theorem mJ15_length_L : mJ15_length.2.2.1 = 1 := rfl
def mJ15_append_3 : Md := (yJ15_append_3, cJ15_append_3, 2, (Option.some (Jvm.ClassFile.FieldType.object "java/lang/StringBuilder")), [])
theorem ok_J15_append_3 : MdOK mJ15_append_3 1 := ⟨⟨by decide +kernel, by decide +kernel, by decide +kernel⟩, by decide⟩
theorem mJ15_append_3_L : mJ15_append_3.2.2.1 = 2 := rfl
def mJ15_compareTo : Md := (yJ15_compareTo, cJ15_compareTo, 2, (Option.some Jvm.ClassFile.FieldType.int), [])
theorem ok_J15_compareTo : MdOK mJ15_compareTo 1 := ⟨⟨by decide +kernel, by decide +kernel, by decide +kernel⟩, by decide⟩
theorem mJ15_compareTo_L : mJ15_compareTo.2.2.1 = 2 := rfl
def mJ15_compareTo_2 : Md := (yJ15_compareTo_2, cJ15_compareTo_2, 2, (Option.some Jvm.ClassFile.FieldType.int), [])
theorem ok_J15_compareTo_2 : MdOK mJ15_compareTo_2 1 := ⟨⟨by decide +kernel, by decide +kernel, by decide +kernel⟩, by decide⟩
theorem mJ15_compareTo_2_L : mJ15_compareTo_2.2.2.1 = 2 := rfl
def mJ16_max : Md := (yJ16_max, cJ16_max, 2, (Option.some Jvm.ClassFile.FieldType.int), [])
theorem ok_J16_max : MdOK mJ16_max 2 := ⟨⟨by decide +kernel, by decide +kernel, by decide +kernel⟩, by decide⟩
theorem mJ16_max_L : mJ16_max.2.2.1 = 2 := rfl
def mJ16_min : Md := (yJ16_min, cJ16_min, 2, (Option.some Jvm.ClassFile.FieldType.int), [])
theorem ok_J16_min : MdOK mJ16_min 2 := ⟨⟨by decide +kernel, by decide +kernel, by decide +kernel⟩, by decide⟩
theorem mJ16_min_L : mJ16_min.2.2.1 = 2 := rfl
def mJ16_min_2 : Md := (yJ16_min_2, cJ16_min_2, 4, (Option.some Jvm.ClassFile.FieldType.long), [])
theorem ok_J16_min_2 : MdOK mJ16_min_2 2 := ⟨⟨by decide +kernel, by decide +kernel, by decide +kernel⟩, by decide⟩
theorem mJ16_min_2_L : mJ16_min_2.2.2.1 = 4 := rfl
def mJ16_max_2 : Md := (yJ16_max_2, cJ16_max_2, 4, (Option.some Jvm.ClassFile.FieldType.long), [])
theorem ok_J16_max_2 : MdOK mJ16_max_2 2 := ⟨⟨by decide +kernel, by decide +kernel, by decide +kernel⟩, by decide⟩
theorem mJ16_max_2_L : mJ16_max_2.2.2.1 = 4 := rfl
def mJ16_abs : Md := (yJ16_abs, cJ16_abs, 1, (Option.some Jvm.ClassFile.FieldType.int), [])
theorem ok_J16_abs : MdOK mJ16_abs 1 := ⟨⟨by decide +kernel, by decide +kernel, by decide +kernel⟩, by decide⟩
theorem mJ16_abs_L : mJ16_abs.2.2.1 = 1 := rfl
def mJ17_copyOf : Md := (yJ17_copyOf, cJ17_copyOf, 3, (Option.some (Jvm.ClassFile.FieldType.array Jvm.ClassFile.FieldType.byte)), [])
theorem ok_J17_copyOf : MdOK mJ17_copyOf 2 := ⟨⟨by decide +kernel, by decide +kernel, by decide +kernel⟩, by decide⟩
theorem mJ17_copyOf_L : mJ17_copyOf.2.2.1 = 3 := rfl
def mJ17_copyOfRange : Md := (yJ17_copyOfRange, cJ17_copyOfRange, 3, (Option.some (Jvm.ClassFile.FieldType.array Jvm.ClassFile.FieldType.byte)), [])
theorem ok_J17_copyOfRange : MdOK mJ17_copyOfRange 3 := ⟨⟨by decide +kernel, by decide +kernel, by decide +kernel⟩, by decide⟩
theorem mJ17_copyOfRange_L : mJ17_copyOfRange.2.2.1 = 3 := rfl
def mJ17_copyOfRangeByte : Md := (yJ17_copyOfRangeByte, cJ17_copyOfRangeByte, 5, (Option.some (Jvm.ClassFile.FieldType.array Jvm.ClassFile.FieldType.byte)), [])
theorem ok_J17_copyOfRangeByte : MdOK mJ17_copyOfRangeByte 3 := ⟨⟨by decide +kernel, by decide +kernel, by decide +kernel⟩, by decide⟩
theorem mJ17_copyOfRangeByte_L : mJ17_copyOfRangeByte.2.2.1 = 5 := rfl
def mJ17_checkLength : Md := (yJ17_checkLength, cJ17_checkLength, 2, (Option.none : Option Jvm.ClassFile.FieldType), [])
theorem ok_J17_checkLength : MdOK mJ17_checkLength 2 := ⟨⟨by decide +kernel, by decide +kernel, by decide +kernel⟩, by decide⟩
theorem mJ17_checkLength_L : mJ17_checkLength.2.2.1 = 2 := rfl
def mJ17_copyOf_2 : Md := (yJ17_copyOf_2, cJ17_copyOf_2, 2, (Option.some (Jvm.ClassFile.FieldType.array (Jvm.ClassFile.FieldType.object "java/lang/Object"))), [])
theorem ok_J17_copyOf_2 : MdOK mJ17_copyOf_2 2 := ⟨⟨by decide +kernel, by decide +kernel, by decide +kernel⟩, by decide⟩
theorem mJ17_copyOf_2_L : mJ17_copyOf_2.2.2.1 = 2 := rfl
def mJ17_copyOf_3 : Md := (yJ17_copyOf_3, cJ17_copyOf_3, 4, (Option.some (Jvm.ClassFile.FieldType.array (Jvm.ClassFile.FieldType.object "java/lang/Object"))), [])
theorem ok_J17_copyOf_3 : MdOK mJ17_copyOf_3 3 := ⟨⟨by decide +kernel, by decide +kernel, by decide +kernel⟩, by decide⟩
theorem mJ17_copyOf_3_L : mJ17_copyOf_3.2.2.1 = 4 := rfl
def mJ18_checkFromToIndex : Md := (yJ18_checkFromToIndex, cJ18_checkFromToIndex, 4, (Option.some Jvm.ClassFile.FieldType.int), [])
theorem ok_J18_checkFromToIndex : MdOK mJ18_checkFromToIndex 4 := ⟨⟨by decide +kernel, by decide +kernel, by decide +kernel⟩, by decide⟩
theorem mJ18_checkFromToIndex_L : mJ18_checkFromToIndex.2.2.1 = 4 := rfl
def mJ18_checkFromIndexSize : Md := (yJ18_checkFromIndexSize, cJ18_checkFromIndexSize, 4, (Option.some Jvm.ClassFile.FieldType.int), [])
theorem ok_J18_checkFromIndexSize : MdOK mJ18_checkFromIndexSize 4 := ⟨⟨by decide +kernel, by decide +kernel, by decide +kernel⟩, by decide⟩
theorem mJ18_checkFromIndexSize_L : mJ18_checkFromIndexSize.2.2.1 = 4 := rfl
def mJ18_checkIndex : Md := (yJ18_checkIndex, cJ18_checkIndex, 3, (Option.some Jvm.ClassFile.FieldType.int), [])
theorem ok_J18_checkIndex : MdOK mJ18_checkIndex 3 := ⟨⟨by decide +kernel, by decide +kernel, by decide +kernel⟩, by decide⟩
theorem mJ18_checkIndex_L : mJ18_checkIndex.2.2.1 = 3 := rfl
def mJ19_init : Md := (yJ19_init, cJ19_init, 1, (Option.none : Option Jvm.ClassFile.FieldType), [])
theorem ok_J19_init : MdOK mJ19_init 0 := ⟨⟨by decide +kernel, by decide +kernel, by decide +kernel⟩, by decide⟩
theorem mJ19_init_L : mJ19_init.2.2.1 = 1 := rfl
def mJ2_init : Md := (yJ2_init, cJ2_init, 1, (Option.none : Option Jvm.ClassFile.FieldType), [])
theorem ok_J2_init : MdOK mJ2_init 0 := ⟨⟨by decide +kernel, by decide +kernel, by decide +kernel⟩, by decide⟩
theorem mJ2_init_L : mJ2_init.2.2.1 = 1 := rfl
def mJ20_stringSize : Md := (yJ20_stringSize, cJ20_stringSize, 4, (Option.some Jvm.ClassFile.FieldType.int), [])
theorem ok_J20_stringSize : MdOK mJ20_stringSize 1 := ⟨⟨by decide +kernel, by decide +kernel, by decide +kernel⟩, by decide⟩
theorem mJ20_stringSize_L : mJ20_stringSize.2.2.1 = 4 := rfl
def mJ20_getChars : Md := (yJ20_getChars, cJ20_getChars, 7, (Option.some Jvm.ClassFile.FieldType.int), [])
theorem ok_J20_getChars : MdOK mJ20_getChars 3 := ⟨⟨by decide +kernel, by decide +kernel, by decide +kernel⟩, by decide⟩
theorem mJ20_getChars_L : mJ20_getChars.2.2.1 = 7 := rfl
def mJ20_intValue : Md := (yJ20_intValue, cJ20_intValue, 1, (Option.some Jvm.ClassFile.FieldType.int), [])
theorem ok_J20_intValue : MdOK mJ20_intValue 0 := ⟨⟨by decide +kernel, by decide +kernel, by decide +kernel⟩, by decide⟩
theorem mJ20_intValue_L : mJ20_intValue.2.2.1 = 1 := rfl
def mJ20_signum : Md := (yJ20_signum, cJ20_signum, 1, (Option.some Jvm.ClassFile.FieldType.int), [])
theorem ok_J20_signum : MdOK mJ20_signum 1 := ⟨⟨by decide +kernel, by decide +kernel, by decide +kernel⟩, by decide⟩
theorem mJ20_signum_L : mJ20_signum.2.2.1 = 1 := rfl
def mJ20_hashCode : Md := (yJ20_hashCode, cJ20_hashCode, 1, (Option.some Jvm.ClassFile.FieldType.int), [])
theorem ok_J20_hashCode : MdOK mJ20_hashCode 0 := ⟨⟨by decide +kernel, by decide +kernel, by decide +kernel⟩, by decide⟩
theorem mJ20_hashCode_L : mJ20_hashCode.2.2.1 = 1 := rfl
def mJ20_hashCode_2 : Md := (yJ20_hashCode_2, cJ20_hashCode_2, 1, (Option.some Jvm.ClassFile.FieldType.int), [])
theorem ok_J20_hashCode_2 : MdOK mJ20_hashCode_2 1 := ⟨⟨by decide +kernel, by decide +kernel, by decide +kernel⟩, by decide⟩
theorem mJ20_hashCode_2_L : mJ20_hashCode_2.2.2.1 = 1 := rfl
def mJ20_equals : Md := (yJ20_equals, cJ20_equals, 2, (Option.some Jvm.ClassFile.FieldType.boolean), [])
theorem ok_J20_equals : MdOK mJ20_equals 1 := ⟨⟨by decide +kernel, by decide +kernel, by decide +kernel⟩, by decide⟩
theorem mJ20_equals_L : mJ20_equals.2.2.1 = 2 := rfl
def mJ20_compareTo : Md := (yJ20_compareTo, cJ20_compareTo, 2, (Option.some Jvm.ClassFile.FieldType.int), [])
theorem ok_J20_compareTo : MdOK mJ20_compareTo 1 := ⟨⟨by decide +kernel, by decide +kernel, by decide +kernel⟩, by decide⟩
theorem mJ20_compareTo_L : mJ20_compareTo.2.2.1 = 2 := rfl
def mJ20_compareTo_2 : Md := (yJ20_compareTo_2, cJ20_compareTo_2, 2, (Option.some Jvm.ClassFile.FieldType.int), [])
theorem ok_J20_compareTo_2 : MdOK mJ20_compareTo_2 1 := ⟨⟨by decide +kernel, by decide +kernel, by decide +kernel⟩, by decide⟩
theorem mJ20_compareTo_2_L : mJ20_compareTo_2.2.2.1 = 2 := rfl
def mJ20_compare : Md := (yJ20_compare, cJ20_compare, 2, (Option.some Jvm.ClassFile.FieldType.int), [])
theorem ok_J20_compare : MdOK mJ20_compare 2 := ⟨⟨by decide +kernel, by decide +kernel, by decide +kernel⟩, by decide⟩
theorem mJ20_compare_L : mJ20_compare.2.2.1 = 2 := rfl
def mJ20_numberOfLeadingZeros : Md := (yJ20_numberOfLeadingZeros, cJ20_numberOfLeadingZeros, 2, (Option.some Jvm.ClassFile.FieldType.int), [])
theorem ok_J20_numberOfLeadingZeros : MdOK mJ20_numberOfLeadingZeros 1 := ⟨⟨by decide +kernel, by decide +kernel, by decide +kernel⟩, by decide⟩
theorem mJ20_numberOfLeadingZeros_L : mJ20_numberOfLeadingZeros.2.2.1 = 2 := rfl
def mJ20_numberOfTrailingZeros : Md := (yJ20_numberOfTrailingZeros, cJ20_numberOfTrailingZeros, 2, (Option.some Jvm.ClassFile.FieldType.int), [])
theorem ok_J20_numberOfTrailingZeros : MdOK mJ20_numberOfTrailingZeros 1 := ⟨⟨by decide +kernel, by decide +kernel, by decide +kernel⟩, by decide⟩
theorem mJ20_numberOfTrailingZeros_L : mJ20_numberOfTrailingZeros.2.2.1 = 2 := rfl
def mJ20_valueOf : Md := (yJ20_valueOf, cJ20_valueOf, 1, (Option.some (Jvm.ClassFile.FieldType.object "java/lang/Integer")), [])
theorem ok_J20_valueOf : MdOK mJ20_valueOf 1 := ⟨⟨by decide +kernel, by decide +kernel, by decide +kernel⟩, by decide⟩
theorem mJ20_valueOf_L : mJ20_valueOf.2.2.1 = 1 := rfl
def mJ20_init : Md := (yJ20_init, cJ20_init, 2, (Option.none : Option Jvm.ClassFile.FieldType), [])
theorem ok_J20_init : MdOK mJ20_init 1 := ⟨⟨by decide +kernel, by decide +kernel, by decide +kernel⟩, by decide⟩
theorem mJ20_init_L : mJ20_init.2.2.1 = 2 := rfl
def mJ21_getLongUnaligned : Md := (yJ21_getLongUnaligned, cJ21_getLongUnaligned, 4, (Option.some Jvm.ClassFile.FieldType.long), [])
theorem ok_J21_getLongUnaligned : MdOK mJ21_getLongUnaligned 2 := ⟨⟨by decide +kernel, by decide +kernel, by decide +kernel⟩, by decide⟩
theorem mJ21_getLongUnaligned_L : mJ21_getLongUnaligned.2.2.1 = 4 := rfl
def mJ21_makeLong : Md := (yJ21_makeLong, cJ21_makeLong, 2, (Option.some Jvm.ClassFile.FieldType.long), [])
theorem ok_J21_makeLong : MdOK mJ21_makeLong 2 := ⟨⟨by decide +kernel, by decide +kernel, by decide +kernel⟩, by decide⟩
theorem mJ21_makeLong_L : mJ21_makeLong.2.2.1 = 2 := rfl
def mJ21_toUnsignedLong : Md := (yJ21_toUnsignedLong, cJ21_toUnsignedLong, 1, (Option.some Jvm.ClassFile.FieldType.long), [])
theorem ok_J21_toUnsignedLong : MdOK mJ21_toUnsignedLong 1 := ⟨⟨by decide +kernel, by decide +kernel, by decide +kernel⟩, by decide⟩
theorem mJ21_toUnsignedLong_L : mJ21_toUnsignedLong.2.2.1 = 1 := rfl
def mJ21_pickPos : Md := (yJ21_pickPos, cJ21_pickPos, 2, (Option.some Jvm.ClassFile.FieldType.int), [])
theorem ok_J21_pickPos : MdOK mJ21_pickPos 2 := ⟨⟨by decide +kernel, by decide +kernel, by decide +kernel⟩, by decide⟩
theorem mJ21_pickPos_L : mJ21_pickPos.2.2.1 = 2 := rfl
def mJ21_makeLong_2 : Md := (yJ21_makeLong_2, cJ21_makeLong_2, 4, (Option.some Jvm.ClassFile.FieldType.long), [])
theorem ok_J21_makeLong_2 : MdOK mJ21_makeLong_2 4 := ⟨⟨by decide +kernel, by decide +kernel, by decide +kernel⟩, by decide⟩
theorem mJ21_makeLong_2_L : mJ21_makeLong_2.2.2.1 = 4 := rfl
def mJ21_toUnsignedLong_2 : Md := (yJ21_toUnsignedLong_2, cJ21_toUnsignedLong_2, 1, (Option.some Jvm.ClassFile.FieldType.long), [])
theorem ok_J21_toUnsignedLong_2 : MdOK mJ21_toUnsignedLong_2 1 := ⟨⟨by decide +kernel, by decide +kernel, by decide +kernel⟩, by decide⟩
theorem mJ21_toUnsignedLong_2_L : mJ21_toUnsignedLong_2.2.2.1 = 1 := rfl
def mJ21_makeLong_3 : Md := (yJ21_makeLong_3, cJ21_makeLong_3, 8, (Option.some Jvm.ClassFile.FieldType.long), [])
theorem ok_J21_makeLong_3 : MdOK mJ21_makeLong_3 8 := ⟨⟨by decide +kernel, by decide +kernel, by decide +kernel⟩, by decide⟩
theorem mJ21_makeLong_3_L : mJ21_makeLong_3.2.2.1 = 8 := rfl
def mJ21_toUnsignedLong_3 : Md := (yJ21_toUnsignedLong_3, cJ21_toUnsignedLong_3, 1, (Option.some Jvm.ClassFile.FieldType.long), [])
theorem ok_J21_toUnsignedLong_3 : MdOK mJ21_toUnsignedLong_3 1 := ⟨⟨by decide +kernel, by decide +kernel, by decide +kernel⟩, by decide⟩
theorem mJ21_toUnsignedLong_3_L : mJ21_toUnsignedLong_3.2.2.1 = 1 := rfl
def mJ21_getIntUnaligned : Md := (yJ21_getIntUnaligned, cJ21_getIntUnaligned, 4, (Option.some Jvm.ClassFile.FieldType.int), [])
theorem ok_J21_getIntUnaligned : MdOK mJ21_getIntUnaligned 2 := ⟨⟨by decide +kernel, by decide +kernel, by decide +kernel⟩, by decide⟩
theorem mJ21_getIntUnaligned_L : mJ21_getIntUnaligned.2.2.1 = 4 := rfl
def mJ21_makeInt : Md := (yJ21_makeInt, cJ21_makeInt, 2, (Option.some Jvm.ClassFile.FieldType.int), [])
theorem ok_J21_makeInt : MdOK mJ21_makeInt 2 := ⟨⟨by decide +kernel, by decide +kernel, by decide +kernel⟩, by decide⟩
theorem mJ21_makeInt_L : mJ21_makeInt.2.2.1 = 2 := rfl
def mJ21_toUnsignedInt : Md := (yJ21_toUnsignedInt, cJ21_toUnsignedInt, 1, (Option.some Jvm.ClassFile.FieldType.int), [])
theorem ok_J21_toUnsignedInt : MdOK mJ21_toUnsignedInt 1 := ⟨⟨by decide +kernel, by decide +kernel, by decide +kernel⟩, by decide⟩
theorem mJ21_toUnsignedInt_L : mJ21_toUnsignedInt.2.2.1 = 1 := rfl
def mJ21_makeInt_2 : Md := (yJ21_makeInt_2, cJ21_makeInt_2, 4, (Option.some Jvm.ClassFile.FieldType.int), [])
theorem ok_J21_makeInt_2 : MdOK mJ21_makeInt_2 4 := ⟨⟨by decide +kernel, by decide +kernel, by decide +kernel⟩, by decide⟩
theorem mJ21_makeInt_2_L : mJ21_makeInt_2.2.2.1 = 4 := rfl
def mJ21_toUnsignedInt_2 : Md := (yJ21_toUnsignedInt_2, cJ21_toUnsignedInt_2, 1, (Option.some Jvm.ClassFile.FieldType.int), [])
theorem ok_J21_toUnsignedInt_2 : MdOK mJ21_toUnsignedInt_2 1 := ⟨⟨by decide +kernel, by decide +kernel, by decide +kernel⟩, by decide⟩
theorem mJ21_toUnsignedInt_2_L : mJ21_toUnsignedInt_2.2.2.1 = 1 := rfl
def mJ22_numberOfLeadingZeros : Md := (yJ22_numberOfLeadingZeros, cJ22_numberOfLeadingZeros, 3, (Option.some Jvm.ClassFile.FieldType.int), [])
theorem ok_J22_numberOfLeadingZeros : MdOK mJ22_numberOfLeadingZeros 1 := ⟨⟨by decide +kernel, by decide +kernel, by decide +kernel⟩, by decide⟩
theorem mJ22_numberOfLeadingZeros_L : mJ22_numberOfLeadingZeros.2.2.1 = 3 := rfl
def mJ22_numberOfTrailingZeros : Md := (yJ22_numberOfTrailingZeros, cJ22_numberOfTrailingZeros, 3, (Option.some Jvm.ClassFile.FieldType.int), [])
theorem ok_J22_numberOfTrailingZeros : MdOK mJ22_numberOfTrailingZeros 1 := ⟨⟨by decide +kernel, by decide +kernel, by decide +kernel⟩, by decide⟩
theorem mJ22_numberOfTrailingZeros_L : mJ22_numberOfTrailingZeros.2.2.1 = 3 := rfl
def mJ23_checkIndex : Md := (yJ23_checkIndex, cJ23_checkIndex, 2, (Option.some Jvm.ClassFile.FieldType.int), [])
theorem ok_J23_checkIndex : MdOK mJ23_checkIndex 2 := ⟨⟨by decide +kernel, by decide +kernel, by decide +kernel⟩, by decide⟩
theorem mJ23_checkIndex_L : mJ23_checkIndex.2.2.1 = 2 := rfl
def mJ24_init : Md := (yJ24_init, cJ24_init, 5, (Option.none : Option Jvm.ClassFile.FieldType), [])
theorem ok_J24_init : MdOK mJ24_init 4 := ⟨⟨by decide +kernel, by decide +kernel, by decide +kernel⟩, by decide⟩
theorem mJ24_init_L : mJ24_init.2.2.1 = 5 := rfl
def mJ25_init : Md := (yJ25_init, cJ25_init, 5, (Option.none : Option Jvm.ClassFile.FieldType), [])
theorem ok_J25_init : MdOK mJ25_init 4 := ⟨⟨by decide +kernel, by decide +kernel, by decide +kernel⟩, by decide⟩
theorem mJ25_init_L : mJ25_init.2.2.1 = 5 := rfl
def mJ26_getTreeNode : Md := (yJ26_getTreeNode, cJ26_getTreeNode, 3, (Option.some (Jvm.ClassFile.FieldType.object "java/util/HashMap$TreeNode")), [])
theorem ok_J26_getTreeNode : MdOK mJ26_getTreeNode 2 := ⟨⟨by decide +kernel, by decide +kernel, by decide +kernel⟩, by decide⟩
theorem mJ26_getTreeNode_L : mJ26_getTreeNode.2.2.1 = 3 := rfl
def mJ26_root : Md := (yJ26_root, cJ26_root, 3, (Option.some (Jvm.ClassFile.FieldType.object "java/util/HashMap$TreeNode")), [])
theorem ok_J26_root : MdOK mJ26_root 0 := ⟨⟨by decide +kernel, by decide +kernel, by decide +kernel⟩, by decide⟩
theorem mJ26_root_L : mJ26_root.2.2.1 = 3 := rfl
def mJ26_find : Md := (yJ26_find, cJ26_find, 11, (Option.some (Jvm.ClassFile.FieldType.object "java/util/HashMap$TreeNode")), [])
theorem ok_J26_find : MdOK mJ26_find 3 := ⟨⟨by decide +kernel, by decide +kernel, by decide +kernel⟩, by decide⟩
theorem mJ26_find_L : mJ26_find.2.2.1 = 11 := rfl
def mJ26_split : Md := (yJ26_split, cJ26_split, 14, (Option.none : Option Jvm.ClassFile.FieldType), [])
theorem ok_J26_split : MdOK mJ26_split 4 := ⟨⟨by decide +kernel, by decide +kernel, by decide +kernel⟩, by decide⟩
theorem mJ26_split_L : mJ26_split.2.2.1 = 14 := rfl
def mJ26_untreeify : Md := (yJ26_untreeify, cJ26_untreeify, 6, (Option.some (Jvm.ClassFile.FieldType.object "java/util/HashMap$Node")), [])
theorem ok_J26_untreeify : MdOK mJ26_untreeify 1 := ⟨⟨by decide +kernel, by decide +kernel, by decide +kernel⟩, by decide⟩
theorem mJ26_untreeify_L : mJ26_untreeify.2.2.1 = 6 := rfl
def mJ26_treeify : Md := (yJ26_treeify, cJ26_treeify, 13, (Option.none : Option Jvm.ClassFile.FieldType), [])
theorem ok_J26_treeify : MdOK mJ26_treeify 1 := ⟨⟨by decide +kernel, by decide +kernel, by decide +kernel⟩, by decide⟩
theorem mJ26_treeify_L : mJ26_treeify.2.2.1 = 13 := rfl
def mJ26_balanceInsertion : Md := (yJ26_balanceInsertion, cJ26_balanceInsertion, 6, (Option.some (Jvm.ClassFile.FieldType.object "java/util/HashMap$TreeNode")), [])
theorem ok_J26_balanceInsertion : MdOK mJ26_balanceInsertion 2 := ⟨⟨by decide +kernel, by decide +kernel, by decide +kernel⟩, by decide⟩
theorem mJ26_balanceInsertion_L : mJ26_balanceInsertion.2.2.1 = 6 := rfl
def mJ26_rotateLeft : Md := (yJ26_rotateLeft, cJ26_rotateLeft, 5, (Option.some (Jvm.ClassFile.FieldType.object "java/util/HashMap$TreeNode")), [])
theorem ok_J26_rotateLeft : MdOK mJ26_rotateLeft 2 := ⟨⟨by decide +kernel, by decide +kernel, by decide +kernel⟩, by decide⟩
theorem mJ26_rotateLeft_L : mJ26_rotateLeft.2.2.1 = 5 := rfl
def mJ26_rotateRight : Md := (yJ26_rotateRight, cJ26_rotateRight, 5, (Option.some (Jvm.ClassFile.FieldType.object "java/util/HashMap$TreeNode")), [])
theorem ok_J26_rotateRight : MdOK mJ26_rotateRight 2 := ⟨⟨by decide +kernel, by decide +kernel, by decide +kernel⟩, by decide⟩
theorem mJ26_rotateRight_L : mJ26_rotateRight.2.2.1 = 5 := rfl
def mJ26_moveRootToFront : Md := (yJ26_moveRootToFront, cJ26_moveRootToFront, 7, (Option.none : Option Jvm.ClassFile.FieldType), [])
theorem ok_J26_moveRootToFront : MdOK mJ26_moveRootToFront 2 := ⟨⟨by decide +kernel, by decide +kernel, by decide +kernel⟩, by decide⟩
theorem mJ26_moveRootToFront_L : mJ26_moveRootToFront.2.2.1 = 7 := rfl
def mJ26_putTreeVal : Md := (yJ26_putTreeVal, cJ26_putTreeVal, 16, (Option.some (Jvm.ClassFile.FieldType.object "java/util/HashMap$TreeNode")), [])
theorem ok_J26_putTreeVal : MdOK mJ26_putTreeVal 5 := ⟨⟨by decide +kernel, by decide +kernel, by decide +kernel⟩, by decide⟩
theorem mJ26_putTreeVal_L : mJ26_putTreeVal.2.2.1 = 16 := rfl
def mJ26_init : Md := (yJ26_init, cJ26_init, 5, (Option.none : Option Jvm.ClassFile.FieldType), [])
theorem ok_J26_init : MdOK mJ26_init 4 := ⟨⟨by decide +kernel, by decide +kernel, by decide +kernel⟩, by decide⟩
theorem mJ26_init_L : mJ26_init.2.2.1 = 5 := rfl
def mJ27_init : Md := (yJ27_init, cJ27_init, 1, (Option.none : Option Jvm.ClassFile.FieldType), [])
theorem ok_J27_init : MdOK mJ27_init 0 := ⟨⟨by decide +kernel, by decide +kernel, by decide +kernel⟩, by decide⟩
theorem mJ27_init_L : mJ27_init.2.2.1 = 1 := rfl
def mJ28_init : Md := (yJ28_init, cJ28_init, 2, (Option.none : Option Jvm.ClassFile.FieldType), [])
theorem ok_J28_init : MdOK mJ28_init 1 := ⟨⟨by decide +kernel, by decide +kernel, by decide +kernel⟩, by decide⟩
theorem mJ28_init_L : mJ28_init.2.2.1 = 2 := rfl
def mJ28_init_2 : Md := (yJ28_init_2, cJ28_init_2, 1, (Option.none : Option Jvm.ClassFile.FieldType), [])
theorem ok_J28_init_2 : MdOK mJ28_init_2 0 := ⟨⟨by decide +kernel, by decide +kernel, by decide +kernel⟩, by decide⟩
theorem mJ28_init_2_L : mJ28_init_2.2.2.1 = 1 := rfl
def mJ29_init : Md := (yJ29_init, cJ29_init, 2, (Option.none : Option Jvm.ClassFile.FieldType), [])
theorem ok_J29_init : MdOK mJ29_init 1 := ⟨⟨by decide +kernel, by decide +kernel, by decide +kernel⟩, by decide⟩
theorem mJ29_init_L : mJ29_init.2.2.1 = 2 := rfl
def mJ29_init_2 : Md := (yJ29_init_2, cJ29_init_2, 1, (Option.none : Option Jvm.ClassFile.FieldType), [])
theorem ok_J29_init_2 : MdOK mJ29_init_2 0 := ⟨⟨by decide +kernel, by decide +kernel, by decide +kernel⟩, by decide⟩
theorem mJ29_init_2_L : mJ29_init_2.2.2.1 = 1 := rfl
def mJ3_init : Md := (yJ3_init, cJ3_init, 1, (Option.none : Option Jvm.ClassFile.FieldType), [])
theorem ok_J3_init : MdOK mJ3_init 0 := ⟨⟨by decide +kernel, by decide +kernel, by decide +kernel⟩, by decide⟩
theorem mJ3_init_L : mJ3_init.2.2.1 = 1 := rfl
def mJ3_containsKey : Md := (yJ3_containsKey, cJ3_containsKey, 2, (Option.some Jvm.ClassFile.FieldType.boolean), [])
theorem ok_J3_containsKey : MdOK mJ3_containsKey 1 := ⟨⟨by decide +kernel, by decide +kernel, by decide +kernel⟩, by decide⟩
theorem mJ3_containsKey_L : mJ3_containsKey.2.2.1 = 2 := rfl
def mJ3_getNode : Md := (yJ3_getNode, cJ3_getNode, 8, (Option.some (Jvm.ClassFile.FieldType.object "java/util/HashMap$Node")), [])
theorem ok_J3_getNode : MdOK mJ3_getNode 1 := ⟨⟨by decide +kernel, by decide +kernel, by decide +kernel⟩, by decide⟩
theorem mJ3_getNode_L : mJ3_getNode.2.2.1 = 8 := rfl
def mJ3_hash : Md := (yJ3_hash, cJ3_hash, 2, (Option.some Jvm.ClassFile.FieldType.int), [])
theorem ok_J3_hash : MdOK mJ3_hash 1 := ⟨⟨by decide +kernel, by decide +kernel, by decide +kernel⟩, by decide⟩
theorem mJ3_hash_L : mJ3_hash.2.2.1 = 2 := rfl
def mJ3_comparableClassFor : Md := (yJ3_comparableClassFor, cJ3_comparableClassFor, 9, (Option.some (Jvm.ClassFile.FieldType.object "java/lang/Class")), [])
theorem ok_J3_comparableClassFor : MdOK mJ3_comparableClassFor 1 := ⟨⟨by decide +kernel, by decide +kernel, by decide +kernel⟩, by decide⟩
theorem mJ3_comparableClassFor_L : mJ3_comparableClassFor.2.2.1 = 9 := rfl
def mJ3_compareComparables : Md := (yJ3_compareComparables, cJ3_compareComparables, 3, (Option.some Jvm.ClassFile.FieldType.int), [])
theorem ok_J3_compareComparables : MdOK mJ3_compareComparables 3 := ⟨⟨by decide +kernel, by decide +kernel, by decide +kernel⟩, by decide⟩
theorem mJ3_compareComparables_L : mJ3_compareComparables.2.2.1 = 3 := rfl
def mJ3_put : Md := (yJ3_put, cJ3_put, 3, (Option.some (Jvm.ClassFile.FieldType.object "java/lang/Object")), [])
theorem ok_J3_put : MdOK mJ3_put 2 := ⟨⟨by decide +kernel, by decide +kernel, by decide +kernel⟩, by decide⟩
theorem mJ3_put_L : mJ3_put.2.2.1 = 3 := rfl
def mJ3_putVal : Md := (yJ3_putVal, cJ3_putVal, 13, (Option.some (Jvm.ClassFile.FieldType.object "java/lang/Object")), [])
theorem ok_J3_putVal : MdOK mJ3_putVal 5 := ⟨⟨by decide +kernel, by decide +kernel, by decide +kernel⟩, by decide⟩
theorem mJ3_putVal_L : mJ3_putVal.2.2.1 = 13 := rfl
def mJ3_resize : Md := (yJ3_resize, cJ3_resize, 14, (Option.some (Jvm.ClassFile.FieldType.array (Jvm.ClassFile.FieldType.object "java/util/HashMap$Node"))), [])
theorem ok_J3_resize : MdOK mJ3_resize 0 := ⟨⟨by decide +kernel, by decide +kernel, by decide +kernel⟩, by decide⟩
theorem mJ3_resize_L : mJ3_resize.2.2.1 = 14 := rfl
def mJ3_replacementNode : Md := (yJ3_replacementNode, cJ3_replacementNode, 3, (Option.some (Jvm.ClassFile.FieldType.object "java/util/HashMap$Node")), [])
theorem ok_J3_replacementNode : MdOK mJ3_replacementNode 2 := ⟨⟨by decide +kernel, by decide +kernel, by decide +kernel⟩, by decide⟩
theorem mJ3_replacementNode_L : mJ3_replacementNode.2.2.1 = 3 := rfl
def mJ3_newNode : Md := (yJ3_newNode, cJ3_newNode, 5, (Option.some (Jvm.ClassFile.FieldType.object "java/util/HashMap$Node")), [])
theorem ok_J3_newNode : MdOK mJ3_newNode 4 := ⟨⟨by decide +kernel, by decide +kernel, by decide +kernel⟩, by decide⟩
theorem mJ3_newNode_L : mJ3_newNode.2.2.1 = 5 := rfl
def mJ3_newTreeNode : Md := (yJ3_newTreeNode, cJ3_newTreeNode, 5, (Option.some (Jvm.ClassFile.FieldType.object "java/util/HashMap$TreeNode")), [])
theorem ok_J3_newTreeNode : MdOK mJ3_newTreeNode 4 := ⟨⟨by decide +kernel, by decide +kernel, by decide +kernel⟩, by decide⟩
theorem mJ3_newTreeNode_L : mJ3_newTreeNode.2.2.1 = 5 := rfl
def mJ3_treeifyBin : Md := (yJ3_treeifyBin, cJ3_treeifyBin, 9, (Option.none : Option Jvm.ClassFile.FieldType), [])
theorem ok_J3_treeifyBin : MdOK mJ3_treeifyBin 2 := ⟨⟨by decide +kernel, by decide +kernel, by decide +kernel⟩, by decide⟩
theorem mJ3_treeifyBin_L : mJ3_treeifyBin.2.2.1 = 9 := rfl
def mJ3_replacementTreeNode : Md := (yJ3_replacementTreeNode, cJ3_replacementTreeNode, 3, (Option.some (Jvm.ClassFile.FieldType.object "java/util/HashMap$TreeNode")), [])
theorem ok_J3_replacementTreeNode : MdOK mJ3_replacementTreeNode 2 := ⟨⟨by decide +kernel, by decide +kernel, by decide +kernel⟩, by decide⟩
theorem mJ3_replacementTreeNode_L : mJ3_replacementTreeNode.2.2.1 = 3 := rfl
def mJ3_afterNodeAccess : Md := (yJ3_afterNodeAccess, cJ3_afterNodeAccess, 2, (Option.none : Option Jvm.ClassFile.FieldType), [])
theorem ok_J3_afterNodeAccess : MdOK mJ3_afterNodeAccess 1 := ⟨⟨by decide +kernel, by decide +kernel, by decide +kernel⟩, by decide⟩
theorem mJ3_afterNodeAccess_L : mJ3_afterNodeAccess.2.2.1 = 2 := rfl
def mJ3_afterNodeInsertion : Md := (yJ3_afterNodeInsertion, cJ3_afterNodeInsertion, 2, (Option.none : Option Jvm.ClassFile.FieldType), [])
theorem ok_J3_afterNodeInsertion : MdOK mJ3_afterNodeInsertion 1 := ⟨⟨by decide +kernel, by decide +kernel, by decide +kernel⟩, by decide⟩
theorem mJ3_afterNodeInsertion_L : mJ3_afterNodeInsertion.2.2.1 = 2 := rfl
def mJ30_init : Md := (yJ30_init, cJ30_init, 2, (Option.none : Option Jvm.ClassFile.FieldType), [])
theorem ok_J30_init : MdOK mJ30_init 1 := ⟨⟨by decide +kernel, by decide +kernel, by decide +kernel⟩, by decide⟩
theorem mJ30_init_L : mJ30_init.2.2.1 = 2 := rfl
def mJ31_init : Md := (yJ31_init, cJ31_init, 1, (Option.none : Option Jvm.ClassFile.FieldType), [])
theorem ok_J31_init : MdOK mJ31_init 0 := ⟨⟨by decide +kernel, by decide +kernel, by decide +kernel⟩, by decide⟩
theorem mJ31_init_L : mJ31_init.2.2.1 = 1 := rfl
def mJ31_equals : Md := (yJ31_equals, cJ31_equals, 2, (Option.some Jvm.ClassFile.FieldType.boolean), [])
theorem ok_J31_equals : MdOK mJ31_equals 1 := ⟨⟨by decide +kernel, by decide +kernel, by decide +kernel⟩, by decide⟩
theorem mJ31_equals_L : mJ31_equals.2.2.1 = 2 := rfl
def mJ32_getUTF16Char : Md := (yJ32_getUTF16Char, cJ32_getUTF16Char, 3, (Option.some Jvm.ClassFile.FieldType.char), [])
theorem ok_J32_getUTF16Char : MdOK mJ32_getUTF16Char 2 := ⟨⟨by decide +kernel, by decide +kernel, by decide +kernel⟩, by decide⟩
theorem mJ32_getUTF16Char_L : mJ32_getUTF16Char.2.2.1 = 3 := rfl
def mJ4_init : Md := (yJ4_init, cJ4_init, 1, (Option.none : Option Jvm.ClassFile.FieldType), [])
theorem ok_J4_init : MdOK mJ4_init 0 := ⟨⟨by decide +kernel, by decide +kernel, by decide +kernel⟩, by decide⟩
theorem mJ4_init_L : mJ4_init.2.2.1 = 1 := rfl
def mJ5_init : Md := (yJ5_init, cJ5_init, 1, (Option.none : Option Jvm.ClassFile.FieldType), [])
theorem ok_J5_init : MdOK mJ5_init 0 := ⟨⟨by decide +kernel, by decide +kernel, by decide +kernel⟩, by decide⟩
theorem mJ5_init_L : mJ5_init.2.2.1 = 1 := rfl
def mJ5_size : Md := (yJ5_size, cJ5_size, 1, (Option.some Jvm.ClassFile.FieldType.int), [])
theorem ok_J5_size : MdOK mJ5_size 0 := ⟨⟨by decide +kernel, by decide +kernel, by decide +kernel⟩, by decide⟩
theorem mJ5_size_L : mJ5_size.2.2.1 = 1 := rfl
def mJ5_get : Md := (yJ5_get, cJ5_get, 2, (Option.some (Jvm.ClassFile.FieldType.object "java/lang/Object")), [])
theorem ok_J5_get : MdOK mJ5_get 1 := ⟨⟨by decide +kernel, by decide +kernel, by decide +kernel⟩, by decide⟩
theorem mJ5_get_L : mJ5_get.2.2.1 = 2 := rfl
def mJ5_elementData : Md := (yJ5_elementData, cJ5_elementData, 2, (Option.some (Jvm.ClassFile.FieldType.object "java/lang/Object")), [])
theorem ok_J5_elementData : MdOK mJ5_elementData 1 := ⟨⟨by decide +kernel, by decide +kernel, by decide +kernel⟩, by decide⟩
theorem mJ5_elementData_L : mJ5_elementData.2.2.1 = 2 := rfl
def mJ5_contains : Md := (yJ5_contains, cJ5_contains, 2, (Option.some Jvm.ClassFile.FieldType.boolean), [])
theorem ok_J5_contains : MdOK mJ5_contains 1 := ⟨⟨by decide +kernel, by decide +kernel, by decide +kernel⟩, by decide⟩
theorem mJ5_contains_L : mJ5_contains.2.2.1 = 2 := rfl
def mJ5_indexOf : Md := (yJ5_indexOf, cJ5_indexOf, 2, (Option.some Jvm.ClassFile.FieldType.int), [])
theorem ok_J5_indexOf : MdOK mJ5_indexOf 1 := ⟨⟨by decide +kernel, by decide +kernel, by decide +kernel⟩, by decide⟩
theorem mJ5_indexOf_L : mJ5_indexOf.2.2.1 = 2 := rfl
def mJ5_indexOfRange : Md := (yJ5_indexOfRange, cJ5_indexOfRange, 6, (Option.some Jvm.ClassFile.FieldType.int), [])
theorem ok_J5_indexOfRange : MdOK mJ5_indexOfRange 3 := ⟨⟨by decide +kernel, by decide +kernel, by decide +kernel⟩, by decide⟩
theorem mJ5_indexOfRange_L : mJ5_indexOfRange.2.2.1 = 6 := rfl
def mJ5_add : Md := (yJ5_add, cJ5_add, 2, (Option.some Jvm.ClassFile.FieldType.boolean), [])
theorem ok_J5_add : MdOK mJ5_add 1 := ⟨⟨by decide +kernel, by decide +kernel, by decide +kernel⟩, by decide⟩
theorem mJ5_add_L : mJ5_add.2.2.1 = 2 := rfl
def mJ5_add_2 : Md := (yJ5_add_2, cJ5_add_2, 4, (Option.none : Option Jvm.ClassFile.FieldType), [])
theorem ok_J5_add_2 : MdOK mJ5_add_2 3 := ⟨⟨by decide +kernel, by decide +kernel, by decide +kernel⟩, by decide⟩
theorem mJ5_add_2_L : mJ5_add_2.2.2.1 = 4 := rfl
def mJ5_grow : Md := (yJ5_grow, cJ5_grow, 1, (Option.some (Jvm.ClassFile.FieldType.array (Jvm.ClassFile.FieldType.object "java/lang/Object"))), [])
theorem ok_J5_grow : MdOK mJ5_grow 0 := ⟨⟨by decide +kernel, by decide +kernel, by decide +kernel⟩, by decide⟩
theorem mJ5_grow_L : mJ5_grow.2.2.1 = 1 := rfl
def mJ5_grow_2 : Md := (yJ5_grow_2, cJ5_grow_2, 4, (Option.some (Jvm.ClassFile.FieldType.array (Jvm.ClassFile.FieldType.object "java/lang/Object"))), [])
theorem ok_J5_grow_2 : MdOK mJ5_grow_2 1 := ⟨⟨by decide +kernel, by decide +kernel, by decide +kernel⟩, by decide⟩
theorem mJ5_grow_2_L : mJ5_grow_2.2.2.1 = 4 := rfl
def mJ5_add_3 : Md := (yJ5_add_3, cJ5_add_3, 5, (Option.none : Option Jvm.ClassFile.FieldType), [])
theorem ok_J5_add_3 : MdOK mJ5_add_3 2 := ⟨⟨by decide +kernel, by decide +kernel, by decide +kernel⟩, by decide⟩
theorem mJ5_add_3_L : mJ5_add_3.2.2.1 = 5 := rfl
def mJ5_rangeCheckForAdd : Md := (yJ5_rangeCheckForAdd, cJ5_rangeCheckForAdd, 2, (Option.none : Option Jvm.ClassFile.FieldType), [])
theorem ok_J5_rangeCheckForAdd : MdOK mJ5_rangeCheckForAdd 1 := ⟨⟨by decide +kernel, by decide +kernel, by decide +kernel⟩, by decide⟩
theorem mJ5_rangeCheckForAdd_L : mJ5_rangeCheckForAdd.2.2.1 = 2 := rfl
def mJ5_outOfBoundsMsg : Md := (yJ5_outOfBoundsMsg, cJ5_outOfBoundsMsg, 2, (Option.some (Jvm.ClassFile.FieldType.object "java/lang/String")), [])
theorem ok_J5_outOfBoundsMsg : MdOK mJ5_outOfBoundsMsg 1 := ⟨⟨by decide +kernel, by decide +kernel, by decide +kernel⟩, by decide⟩
theorem mJ5_outOfBoundsMsg_L : mJ5_outOfBoundsMsg.2.2.1 = 2 := rfl
def mJ5_remove : Md := (yJ5_remove, cJ5_remove, 4, (Option.some (Jvm.ClassFile.FieldType.object "java/lang/Object")), [])
theorem ok_J5_remove : MdOK mJ5_remove 1 := ⟨⟨by decide +kernel, by decide +kernel, by decide +kernel⟩, by decide⟩
theorem mJ5_remove_L : mJ5_remove.2.2.1 = 4 := rfl
def mJ5_fastRemove : Md := (yJ5_fastRemove, cJ5_fastRemove, 4, (Option.none : Option Jvm.ClassFile.FieldType), [])
theorem ok_J5_fastRemove : MdOK mJ5_fastRemove 2 := ⟨⟨by decide +kernel, by decide +kernel, by decide +kernel⟩, by decide⟩
theorem mJ5_fastRemove_L : mJ5_fastRemove.2.2.1 = 4 := rfl
def mJ6_hashCode : Md := (yJ6_hashCode, cJ6_hashCode, 2, (Option.some Jvm.ClassFile.FieldType.int), [])
theorem ok_J6_hashCode : MdOK mJ6_hashCode 0 := ⟨⟨by decide +kernel, by decide +kernel, by decide +kernel⟩, by decide⟩
theorem mJ6_hashCode_L : mJ6_hashCode.2.2.1 = 2 := rfl
def mJ6_isLatin1 : Md := (yJ6_isLatin1, cJ6_isLatin1, 1, (Option.some Jvm.ClassFile.FieldType.boolean), [])
theorem ok_J6_isLatin1 : MdOK mJ6_isLatin1 0 := ⟨⟨by decide +kernel, by decide +kernel, by decide +kernel⟩, by decide⟩
theorem mJ6_isLatin1_L : mJ6_isLatin1.2.2.1 = 1 := rfl
def mJ6_checkBoundsBeginEnd : Md := (yJ6_checkBoundsBeginEnd, cJ6_checkBoundsBeginEnd, 3, (Option.none : Option Jvm.ClassFile.FieldType), [])
theorem ok_J6_checkBoundsBeginEnd : MdOK mJ6_checkBoundsBeginEnd 3 := ⟨⟨by decide +kernel, by decide +kernel, by decide +kernel⟩, by decide⟩
theorem mJ6_checkBoundsBeginEnd_L : mJ6_checkBoundsBeginEnd.2.2.1 = 3 := rfl
def mJ6_length : Md := (yJ6_length, cJ6_length, 1, (Option.some Jvm.ClassFile.FieldType.int), [])
theorem ok_J6_length : MdOK mJ6_length 0 := ⟨⟨by decide +kernel, by decide +kernel, by decide +kernel⟩, by decide⟩
theorem mJ6_length_L : mJ6_length.2.2.1 = 1 := rfl
def mJ6_coder : Md := (yJ6_coder, cJ6_coder, 1, (Option.some Jvm.ClassFile.FieldType.byte), [])
theorem ok_J6_coder : MdOK mJ6_coder 0 := ⟨⟨by decide +kernel, by decide +kernel, by decide +kernel⟩, by decide⟩
theorem mJ6_coder_L : mJ6_coder.2.2.1 = 1 := rfl
def mJ6_checkBoundsOffCount : Md := (yJ6_checkBoundsOffCount, cJ6_checkBoundsOffCount, 3, (Option.some Jvm.ClassFile.FieldType.int), [])
theorem ok_J6_checkBoundsOffCount : MdOK mJ6_checkBoundsOffCount 3 := ⟨⟨by decide +kernel, by decide +kernel, by decide +kernel⟩, by decide⟩
theorem mJ6_checkBoundsOffCount_L : mJ6_checkBoundsOffCount.2.2.1 = 3 := rfl
def mJ6_getBytes : Md := (yJ6_getBytes, cJ6_getBytes, 4, (Option.none : Option Jvm.ClassFile.FieldType), [])
theorem ok_J6_getBytes : MdOK mJ6_getBytes 3 := ⟨⟨by decide +kernel, by decide +kernel, by decide +kernel⟩, by decide⟩
theorem mJ6_getBytes_L : mJ6_getBytes.2.2.1 = 4 := rfl
def mJ6_init : Md := (yJ6_init, cJ6_init, 2, (Option.none : Option Jvm.ClassFile.FieldType), [])
theorem ok_J6_init : MdOK mJ6_init 1 := ⟨⟨by decide +kernel, by decide +kernel, by decide +kernel⟩, by decide⟩
theorem mJ6_init_L : mJ6_init.2.2.1 = 2 := rfl
def mJ6_init_2 : Md := (yJ6_init_2, cJ6_init_2, 5, (Option.none : Option Jvm.ClassFile.FieldType), [])
theorem ok_J6_init_2 : MdOK mJ6_init_2 2 := ⟨⟨by decide +kernel, by decide +kernel, by decide +kernel⟩, by decide⟩
theorem mJ6_init_2_L : mJ6_init_2.2.2.1 = 5 := rfl
def mJ6_equals : Md := (yJ6_equals, cJ6_equals, 3, (Option.some Jvm.ClassFile.FieldType.boolean), [])
theorem ok_J6_equals : MdOK mJ6_equals 1 := ⟨⟨by decide +kernel, by decide +kernel, by decide +kernel⟩, by decide⟩
theorem mJ6_equals_L : mJ6_equals.2.2.1 = 3 := rfl
def mJ6_checkIndex : Md := (yJ6_checkIndex, cJ6_checkIndex, 2, (Option.none : Option Jvm.ClassFile.FieldType), [])
theorem ok_J6_checkIndex : MdOK mJ6_checkIndex 2 := ⟨⟨by decide +kernel, by decide +kernel, by decide +kernel⟩, by decide⟩
theorem mJ6_checkIndex_L : mJ6_checkIndex.2.2.1 = 2 := rfl
def mJ6_compareTo : Md := (yJ6_compareTo, cJ6_compareTo, 2, (Option.some Jvm.ClassFile.FieldType.int), [])
theorem ok_J6_compareTo : MdOK mJ6_compareTo 1 := ⟨⟨by decide +kernel, by decide +kernel, by decide +kernel⟩, by decide⟩
theorem mJ6_compareTo_L : mJ6_compareTo.2.2.1 = 2 := rfl
def mJ6_compareTo_2 : Md := (yJ6_compareTo_2, cJ6_compareTo_2, 5, (Option.some Jvm.ClassFile.FieldType.int), [])
theorem ok_J6_compareTo_2 : MdOK mJ6_compareTo_2 1 := ⟨⟨by decide +kernel, by decide +kernel, by decide +kernel⟩, by decide⟩
theorem mJ6_compareTo_2_L : mJ6_compareTo_2.2.2.1 = 5 := rfl
def mJ6_checkOffset : Md := (yJ6_checkOffset, cJ6_checkOffset, 2, (Option.none : Option Jvm.ClassFile.FieldType), [])
theorem ok_J6_checkOffset : MdOK mJ6_checkOffset 2 := ⟨⟨by decide +kernel, by decide +kernel, by decide +kernel⟩, by decide⟩
theorem mJ6_checkOffset_L : mJ6_checkOffset.2.2.1 = 2 := rfl
def mJ6_charAt : Md := (yJ6_charAt, cJ6_charAt, 2, (Option.some Jvm.ClassFile.FieldType.char), [])
theorem ok_J6_charAt : MdOK mJ6_charAt 1 := ⟨⟨by decide +kernel, by decide +kernel, by decide +kernel⟩, by decide⟩
theorem mJ6_charAt_L : mJ6_charAt.2.2.1 = 2 := rfl
def mJ7_hashCode : Md := (yJ7_hashCode, cJ7_hashCode, 1, (Option.some Jvm.ClassFile.FieldType.int), [])
theorem ok_J7_hashCode : MdOK mJ7_hashCode 1 := ⟨⟨by decide +kernel, by decide +kernel, by decide +kernel⟩, by decide⟩
theorem mJ7_hashCode_L : mJ7_hashCode.2.2.1 = 1 := rfl
def mJ7_inflate : Md := (yJ7_inflate, cJ7_inflate, 5, (Option.none : Option Jvm.ClassFile.FieldType), [])
theorem ok_J7_inflate : MdOK mJ7_inflate 5 := ⟨⟨by decide +kernel, by decide +kernel, by decide +kernel⟩, by decide⟩
theorem mJ7_inflate_L : mJ7_inflate.2.2.1 = 5 := rfl
def mJ7_equals : Md := (yJ7_equals, cJ7_equals, 3, (Option.some Jvm.ClassFile.FieldType.boolean), [])
theorem ok_J7_equals : MdOK mJ7_equals 2 := ⟨⟨by decide +kernel, by decide +kernel, by decide +kernel⟩, by decide⟩
theorem mJ7_equals_L : mJ7_equals.2.2.1 = 3 := rfl
def mJ7_canEncode : Md := (yJ7_canEncode, cJ7_canEncode, 1, (Option.some Jvm.ClassFile.FieldType.boolean), [])
theorem ok_J7_canEncode : MdOK mJ7_canEncode 1 := ⟨⟨by decide +kernel, by decide +kernel, by decide +kernel⟩, by decide⟩
theorem mJ7_canEncode_L : mJ7_canEncode.2.2.1 = 1 := rfl
def mJ7_compareTo : Md := (yJ7_compareTo, cJ7_compareTo, 4, (Option.some Jvm.ClassFile.FieldType.int), [])
theorem ok_J7_compareTo : MdOK mJ7_compareTo 2 := ⟨⟨by decide +kernel, by decide +kernel, by decide +kernel⟩, by decide⟩
theorem mJ7_compareTo_L : mJ7_compareTo.2.2.1 = 4 := rfl
def mJ7_compareTo_2 : Md := (yJ7_compareTo_2, cJ7_compareTo_2, 6, (Option.some Jvm.ClassFile.FieldType.int), [])
theorem ok_J7_compareTo_2 : MdOK mJ7_compareTo_2 4 := ⟨⟨by decide +kernel, by decide +kernel, by decide +kernel⟩, by decide⟩
theorem mJ7_compareTo_2_L : mJ7_compareTo_2.2.2.1 = 6 := rfl
def mJ7_getChar : Md := (yJ7_getChar, cJ7_getChar, 2, (Option.some Jvm.ClassFile.FieldType.char), [])
theorem ok_J7_getChar : MdOK mJ7_getChar 2 := ⟨⟨by decide +kernel, by decide +kernel, by decide +kernel⟩, by decide⟩
theorem mJ7_getChar_L : mJ7_getChar.2.2.1 = 2 := rfl
def mJ7_compareToUTF16 : Md := (yJ7_compareToUTF16, cJ7_compareToUTF16, 4, (Option.some Jvm.ClassFile.FieldType.int), [])
theorem ok_J7_compareToUTF16 : MdOK mJ7_compareToUTF16 2 := ⟨⟨by decide +kernel, by decide +kernel, by decide +kernel⟩, by decide⟩
theorem mJ7_compareToUTF16_L : mJ7_compareToUTF16.2.2.1 = 4 := rfl
def mJ7_length : Md := (yJ7_length, cJ7_length, 1, (Option.some Jvm.ClassFile.FieldType.int), [])
theorem ok_J7_length : MdOK mJ7_length 1 := ⟨⟨by decide +kernel, by decide +kernel, by decide +kernel⟩, by decide⟩
theorem mJ7_length_L : mJ7_length.2.2.1 = 1 := rfl
def mJ7_compareToUTF16Values : Md := (yJ7_compareToUTF16Values, cJ7_compareToUTF16Values, 8, (Option.some Jvm.ClassFile.FieldType.int), [])
theorem ok_J7_compareToUTF16Values : MdOK mJ7_compareToUTF16Values 4 := ⟨⟨by decide +kernel, by decide +kernel, by decide +kernel⟩, by decide⟩
theorem mJ7_compareToUTF16Values_L : mJ7_compareToUTF16Values.2.2.1 = 8 := rfl
def mJ7_compareToUTF16_2 : Md := (yJ7_compareToUTF16_2, cJ7_compareToUTF16_2, 4, (Option.some Jvm.ClassFile.FieldType.int), [])
theorem ok_J7_compareToUTF16_2 : MdOK mJ7_compareToUTF16_2 4 := ⟨⟨by decide +kernel, by decide +kernel, by decide +kernel⟩, by decide⟩
theorem mJ7_compareToUTF16_2_L : mJ7_compareToUTF16_2.2.2.1 = 4 := rfl
def mJ7_charAt : Md := (yJ7_charAt, cJ7_charAt, 2, (Option.some Jvm.ClassFile.FieldType.char), [])
theorem ok_J7_charAt : MdOK mJ7_charAt 2 := ⟨⟨by decide +kernel, by decide +kernel, by decide +kernel⟩, by decide⟩
theorem mJ7_charAt_L : mJ7_charAt.2.2.1 = 2 := rfl
def mJ8_vectorizedHashCode : Md := (yJ8_vectorizedHashCode, cJ8_vectorizedHashCode, 5, (Option.some Jvm.ClassFile.FieldType.int), [])
theorem ok_J8_vectorizedHashCode : MdOK mJ8_vectorizedHashCode 5 := ⟨⟨by decide +kernel, by decide +kernel, by decide +kernel⟩, by decide⟩
theorem mJ8_vectorizedHashCode_L : mJ8_vectorizedHashCode.2.2.1 = 5 := rfl
def mJ8_signedHashCode : Md := (yJ8_signedHashCode, cJ8_signedHashCode, 6, (Option.some Jvm.ClassFile.FieldType.int), [])
theorem ok_J8_signedHashCode : MdOK mJ8_signedHashCode 4 := ⟨⟨by decide +kernel, by decide +kernel, by decide +kernel⟩, by decide⟩
theorem mJ8_signedHashCode_L : mJ8_signedHashCode.2.2.1 = 6 := rfl
def mJ8_utf16hashCode : Md := (yJ8_utf16hashCode, cJ8_utf16hashCode, 6, (Option.some Jvm.ClassFile.FieldType.int), [])
theorem ok_J8_utf16hashCode : MdOK mJ8_utf16hashCode 4 := ⟨⟨by decide +kernel, by decide +kernel, by decide +kernel⟩, by decide⟩
theorem mJ8_utf16hashCode_L : mJ8_utf16hashCode.2.2.1 = 6 := rfl
def mJ8_hashCode : Md := (yJ8_hashCode, cJ8_hashCode, 6, (Option.some Jvm.ClassFile.FieldType.int), [])
theorem ok_J8_hashCode : MdOK mJ8_hashCode 4 := ⟨⟨by decide +kernel, by decide +kernel, by decide +kernel⟩, by decide⟩
theorem mJ8_hashCode_L : mJ8_hashCode.2.2.1 = 6 := rfl
def mJ8_hashCode_2 : Md := (yJ8_hashCode_2, cJ8_hashCode_2, 6, (Option.some Jvm.ClassFile.FieldType.int), [])
theorem ok_J8_hashCode_2 : MdOK mJ8_hashCode_2 4 := ⟨⟨by decide +kernel, by decide +kernel, by decide +kernel⟩, by decide⟩
theorem mJ8_hashCode_2_L : mJ8_hashCode_2.2.2.1 = 6 := rfl
def mJ8_hashCode_3 : Md := (yJ8_hashCode_3, cJ8_hashCode_3, 6, (Option.some Jvm.ClassFile.FieldType.int), [])
theorem ok_J8_hashCode_3 : MdOK mJ8_hashCode_3 4 := ⟨⟨by decide +kernel, by decide +kernel, by decide +kernel⟩, by decide⟩
theorem mJ8_hashCode_3_L : mJ8_hashCode_3.2.2.1 = 6 := rfl
def mJ8_hashCode_4 : Md := (yJ8_hashCode_4, cJ8_hashCode_4, 6, (Option.some Jvm.ClassFile.FieldType.int), [])
theorem ok_J8_hashCode_4 : MdOK mJ8_hashCode_4 4 := ⟨⟨by decide +kernel, by decide +kernel, by decide +kernel⟩, by decide⟩
theorem mJ8_hashCode_4_L : mJ8_hashCode_4.2.2.1 = 6 := rfl
def mJ8_newLength : Md := (yJ8_newLength, cJ8_newLength, 4, (Option.some Jvm.ClassFile.FieldType.int), [])
theorem ok_J8_newLength : MdOK mJ8_newLength 3 := ⟨⟨by decide +kernel, by decide +kernel, by decide +kernel⟩, by decide⟩
theorem mJ8_newLength_L : mJ8_newLength.2.2.1 = 4 := rfl
def mJ8_hugeLength : Md := (yJ8_hugeLength, cJ8_hugeLength, 3, (Option.some Jvm.ClassFile.FieldType.int), [])
theorem ok_J8_hugeLength : MdOK mJ8_hugeLength 2 := ⟨⟨by decide +kernel, by decide +kernel, by decide +kernel⟩, by decide⟩
theorem mJ8_hugeLength_L : mJ8_hugeLength.2.2.1 = 3 := rfl
def mJ8_mismatch : Md := (yJ8_mismatch, cJ8_mismatch, 4, (Option.some Jvm.ClassFile.FieldType.int), [])
theorem ok_J8_mismatch : MdOK mJ8_mismatch 3 := ⟨⟨by decide +kernel, by decide +kernel, by decide +kernel⟩, by decide⟩
theorem mJ8_mismatch_L : mJ8_mismatch.2.2.1 = 4 := rfl
def mJ8_vectorizedMismatch : Md := (yJ8_vectorizedMismatch, cJ8_vectorizedMismatch, 19, (Option.some Jvm.ClassFile.FieldType.int), [])
theorem ok_J8_vectorizedMismatch : MdOK mJ8_vectorizedMismatch 6 := ⟨⟨by decide +kernel, by decide +kernel, by decide +kernel⟩, by decide⟩
theorem mJ8_vectorizedMismatch_L : mJ8_vectorizedMismatch.2.2.1 = 19 := rfl
def mJ9_getChar : Md := (yJ9_getChar, cJ9_getChar, 2, (Option.some Jvm.ClassFile.FieldType.char), [])
theorem ok_J9_getChar : MdOK mJ9_getChar 2 := ⟨⟨by decide +kernel, by decide +kernel, by decide +kernel⟩, by decide⟩
theorem mJ9_getChar_L : mJ9_getChar.2.2.1 = 2 := rfl
def mJ9_length : Md := (yJ9_length, cJ9_length, 1, (Option.some Jvm.ClassFile.FieldType.int), [])
theorem ok_J9_length : MdOK mJ9_length 1 := ⟨⟨by decide +kernel, by decide +kernel, by decide +kernel⟩, by decide⟩
theorem mJ9_length_L : mJ9_length.2.2.1 = 1 := rfl
def mJ9_newBytesFor : Md := (yJ9_newBytesFor, cJ9_newBytesFor, 1, (Option.some (Jvm.ClassFile.FieldType.array Jvm.ClassFile.FieldType.byte)), [])
theorem ok_J9_newBytesFor : MdOK mJ9_newBytesFor 1 := ⟨⟨by decide +kernel, by decide +kernel, by decide +kernel⟩, by decide⟩
theorem mJ9_newBytesFor_L : mJ9_newBytesFor.2.2.1 = 1 := rfl
def mJ9_newBytesLength : Md := (yJ9_newBytesLength, cJ9_newBytesLength, 1, (Option.some Jvm.ClassFile.FieldType.int), [])
theorem ok_J9_newBytesLength : MdOK mJ9_newBytesLength 1 := ⟨⟨by decide +kernel, by decide +kernel, by decide +kernel⟩, by decide⟩
theorem mJ9_newBytesLength_L : mJ9_newBytesLength.2.2.1 = 1 := rfl
def mJ9_putCharsAt : Md := (yJ9_putCharsAt, cJ9_putCharsAt, 7, (Option.some Jvm.ClassFile.FieldType.int), [])
theorem ok_J9_putCharsAt : MdOK mJ9_putCharsAt 6 := ⟨⟨by decide +kernel, by decide +kernel, by decide +kernel⟩, by decide⟩
theorem mJ9_putCharsAt_L : mJ9_putCharsAt.2.2.1 = 7 := rfl
def mJ9_checkBoundsBeginEnd : Md := (yJ9_checkBoundsBeginEnd, cJ9_checkBoundsBeginEnd, 3, (Option.none : Option Jvm.ClassFile.FieldType), [])
theorem ok_J9_checkBoundsBeginEnd : MdOK mJ9_checkBoundsBeginEnd 3 := ⟨⟨by decide +kernel, by decide +kernel, by decide +kernel⟩, by decide⟩
theorem mJ9_checkBoundsBeginEnd_L : mJ9_checkBoundsBeginEnd.2.2.1 = 3 := rfl
def mJ9_putChar : Md := (yJ9_putChar, cJ9_putChar, 3, (Option.none : Option Jvm.ClassFile.FieldType), [])
theorem ok_J9_putChar : MdOK mJ9_putChar 3 := ⟨⟨by decide +kernel, by decide +kernel, by decide +kernel⟩, by decide⟩
theorem mJ9_putChar_L : mJ9_putChar.2.2.1 = 3 := rfl
def mJ9_inflate : Md := (yJ9_inflate, cJ9_inflate, 6, (Option.none : Option Jvm.ClassFile.FieldType), [])
theorem ok_J9_inflate : MdOK mJ9_inflate 5 := ⟨⟨by decide +kernel, by decide +kernel, by decide +kernel⟩, by decide⟩
theorem mJ9_inflate_L : mJ9_inflate.2.2.1 = 6 := rfl
def mJ9_checkBoundsOffCount : Md := (yJ9_checkBoundsOffCount, cJ9_checkBoundsOffCount, 3, (Option.none : Option Jvm.ClassFile.FieldType), [])
theorem ok_J9_checkBoundsOffCount : MdOK mJ9_checkBoundsOffCount 3 := ⟨⟨by decide +kernel, by decide +kernel, by decide +kernel⟩, by decide⟩
theorem mJ9_checkBoundsOffCount_L : mJ9_checkBoundsOffCount.2.2.1 = 3 := rfl
def mJ9_getChars : Md := (yJ9_getChars, cJ9_getChars, 5, (Option.some Jvm.ClassFile.FieldType.int), [])
theorem ok_J9_getChars : MdOK mJ9_getChars 4 := ⟨⟨by decide +kernel, by decide +kernel, by decide +kernel⟩, by decide⟩
theorem mJ9_getChars_L : mJ9_getChars.2.2.1 = 5 := rfl
def mJ9_getChars_2 : Md := (yJ9_getChars_2, cJ9_getChars_2, 7, (Option.some Jvm.ClassFile.FieldType.int), [])
theorem ok_J9_getChars_2 : MdOK mJ9_getChars_2 3 := ⟨⟨by decide +kernel, by decide +kernel, by decide +kernel⟩, by decide⟩
theorem mJ9_getChars_2_L : mJ9_getChars_2.2.2.1 = 7 := rfl
def mJ9_compress : Md := (yJ9_compress, cJ9_compress, 6, (Option.some (Jvm.ClassFile.FieldType.array Jvm.ClassFile.FieldType.byte)), [])
theorem ok_J9_compress : MdOK mJ9_compress 3 := ⟨⟨by decide +kernel, by decide +kernel, by decide +kernel⟩, by decide⟩
theorem mJ9_compress_L : mJ9_compress.2.2.1 = 6 := rfl
def mJ9_compress_2 : Md := (yJ9_compress_2, cJ9_compress_2, 7, (Option.some Jvm.ClassFile.FieldType.int), [])
theorem ok_J9_compress_2 : MdOK mJ9_compress_2 5 := ⟨⟨by decide +kernel, by decide +kernel, by decide +kernel⟩, by decide⟩
theorem mJ9_compress_2_L : mJ9_compress_2.2.2.1 = 7 := rfl
def mJ9_coderFromArrayLen : Md := (yJ9_coderFromArrayLen, cJ9_coderFromArrayLen, 2, (Option.some Jvm.ClassFile.FieldType.byte), [])
theorem ok_J9_coderFromArrayLen : MdOK mJ9_coderFromArrayLen 2 := ⟨⟨by decide +kernel, by decide +kernel, by decide +kernel⟩, by decide⟩
theorem mJ9_coderFromArrayLen_L : mJ9_coderFromArrayLen.2.2.1 = 2 := rfl
def mJ9_hashCode : Md := (yJ9_hashCode, cJ9_hashCode, 1, (Option.some Jvm.ClassFile.FieldType.int), [])
theorem ok_J9_hashCode : MdOK mJ9_hashCode 1 := ⟨⟨by decide +kernel, by decide +kernel, by decide +kernel⟩, by decide⟩
theorem mJ9_hashCode_L : mJ9_hashCode.2.2.1 = 1 := rfl
def mJ9_putCharSB : Md := (yJ9_putCharSB, cJ9_putCharSB, 3, (Option.none : Option Jvm.ClassFile.FieldType), [])
theorem ok_J9_putCharSB : MdOK mJ9_putCharSB 3 := ⟨⟨by decide +kernel, by decide +kernel, by decide +kernel⟩, by decide⟩
theorem mJ9_putCharSB_L : mJ9_putCharSB.2.2.1 = 3 := rfl
def mJ9_checkIndex : Md := (yJ9_checkIndex, cJ9_checkIndex, 2, (Option.none : Option Jvm.ClassFile.FieldType), [])
theorem ok_J9_checkIndex : MdOK mJ9_checkIndex 2 := ⟨⟨by decide +kernel, by decide +kernel, by decide +kernel⟩, by decide⟩
theorem mJ9_checkIndex_L : mJ9_checkIndex.2.2.1 = 2 := rfl
def mJ9_compareTo : Md := (yJ9_compareTo, cJ9_compareTo, 4, (Option.some Jvm.ClassFile.FieldType.int), [])
theorem ok_J9_compareTo : MdOK mJ9_compareTo 2 := ⟨⟨by decide +kernel, by decide +kernel, by decide +kernel⟩, by decide⟩
theorem mJ9_compareTo_L : mJ9_compareTo.2.2.1 = 4 := rfl
def mJ9_compareValues : Md := (yJ9_compareValues, cJ9_compareValues, 8, (Option.some Jvm.ClassFile.FieldType.int), [])
theorem ok_J9_compareValues : MdOK mJ9_compareValues 4 := ⟨⟨by decide +kernel, by decide +kernel, by decide +kernel⟩, by decide⟩
theorem mJ9_compareValues_L : mJ9_compareValues.2.2.1 = 8 := rfl
def mJ9_compareToLatin1 : Md := (yJ9_compareToLatin1, cJ9_compareToLatin1, 2, (Option.some Jvm.ClassFile.FieldType.int), [])
theorem ok_J9_compareToLatin1 : MdOK mJ9_compareToLatin1 2 := ⟨⟨by decide +kernel, by decide +kernel, by decide +kernel⟩, by decide⟩
theorem mJ9_compareToLatin1_L : mJ9_compareToLatin1.2.2.1 = 2 := rfl
def mJ9_compareTo_2 : Md := (yJ9_compareTo_2, cJ9_compareTo_2, 4, (Option.some Jvm.ClassFile.FieldType.int), [])
theorem ok_J9_compareTo_2 : MdOK mJ9_compareTo_2 4 := ⟨⟨by decide +kernel, by decide +kernel, by decide +kernel⟩, by decide⟩
theorem mJ9_compareTo_2_L : mJ9_compareTo_2.2.2.1 = 4 := rfl
def mJ9_checkOffset : Md := (yJ9_checkOffset, cJ9_checkOffset, 2, (Option.none : Option Jvm.ClassFile.FieldType), [])
theorem ok_J9_checkOffset : MdOK mJ9_checkOffset 2 := ⟨⟨by decide +kernel, by decide +kernel, by decide +kernel⟩, by decide⟩
theorem mJ9_checkOffset_L : mJ9_checkOffset.2.2.1 = 2 := rfl
def mJ9_compareToLatin1_2 : Md := (yJ9_compareToLatin1_2, cJ9_compareToLatin1_2, 4, (Option.some Jvm.ClassFile.FieldType.int), [])
theorem ok_J9_compareToLatin1_2 : MdOK mJ9_compareToLatin1_2 4 := ⟨⟨by decide +kernel, by decide +kernel, by decide +kernel⟩, by decide⟩
theorem mJ9_compareToLatin1_2_L : mJ9_compareToLatin1_2.2.2.1 = 4 := rfl
def mJ9_charAt : Md := (yJ9_charAt, cJ9_charAt, 2, (Option.some Jvm.ClassFile.FieldType.char), [])
theorem ok_J9_charAt : MdOK mJ9_charAt 2 := ⟨⟨by decide +kernel, by decide +kernel, by decide +kernel⟩, by decide⟩
theorem mJ9_charAt_L : mJ9_charAt.2.2.1 = 2 := rfl
def mX0_load : Md := (yX0_load, cX0_load, 4, (Option.some Jvm.ClassFile.FieldType.int), [(0, 9, 12, 13)])
theorem ok_X0_load : MdOK mX0_load 3 := ⟨⟨by decide +kernel, by decide +kernel, by decide +kernel⟩, by decide⟩
theorem mX0_load_L : mX0_load.2.2.1 = 4 := rfl
def mX0_count : Md := (yX0_count, cX0_count, 4, (Option.some Jvm.ClassFile.FieldType.int), [(0, 9, 12, 13)])
theorem ok_X0_count : MdOK mX0_count 3 := ⟨⟨by decide +kernel, by decide +kernel, by decide +kernel⟩, by decide⟩
theorem mX0_count_L : mX0_count.2.2.1 = 4 := rfl
def mX0_stone : Md := (yX0_stone, cX0_stone, 5, (Option.some Jvm.ClassFile.FieldType.int), [(0, 10, 13, 22), (0, 10, 17, 13)])
theorem ok_X0_stone : MdOK mX0_stone 4 := ⟨⟨by decide +kernel, by decide +kernel, by decide +kernel⟩, by decide⟩
theorem mX0_stone_L : mX0_stone.2.2.1 = 5 := rfl
def mX0_polygon : Md := (yX0_polygon, cX0_polygon, 5, (Option.some Jvm.ClassFile.FieldType.int), [(0, 10, 13, 27), (0, 10, 17, 13)])
theorem ok_X0_polygon : MdOK mX0_polygon 4 := ⟨⟨by decide +kernel, by decide +kernel, by decide +kernel⟩, by decide⟩
theorem mX0_polygon_L : mX0_polygon.2.2.1 = 5 := rfl
def mX0_cornerAt : Md := (yX0_cornerAt, cX0_cornerAt, 5, (Option.some Jvm.ClassFile.FieldType.int), [(0, 10, 13, 27), (0, 10, 17, 22)])
theorem ok_X0_cornerAt : MdOK mX0_cornerAt 4 := ⟨⟨by decide +kernel, by decide +kernel, by decide +kernel⟩, by decide⟩
theorem mX0_cornerAt_L : mX0_cornerAt.2.2.1 = 5 := rfl
def mX0_reason : Md := (yX0_reason, cX0_reason, 6, (Option.some Jvm.ClassFile.FieldType.int), [(0, 12, 15, 27), (0, 12, 19, 13)])
theorem ok_X0_reason : MdOK mX0_reason 5 := ⟨⟨by decide +kernel, by decide +kernel, by decide +kernel⟩, by decide⟩
theorem mX0_reason_L : mX0_reason.2.2.1 = 6 := rfl
def mX0_where : Md := (yX0_where, cX0_where, 6, (Option.some Jvm.ClassFile.FieldType.int), [(0, 12, 15, 27), (0, 12, 19, 13), (0, 12, 23, 39)])
theorem ok_X0_where : MdOK mX0_where 5 := ⟨⟨by decide +kernel, by decide +kernel, by decide +kernel⟩, by decide⟩
theorem mX0_where_L : mX0_where.2.2.1 = 6 := rfl
def mX0_area : Md := (yX0_area, cX0_area, 4, (Option.some Jvm.ClassFile.FieldType.int), [(0, 9, 12, 27), (0, 9, 15, 39)])
theorem ok_X0_area : MdOK mX0_area 3 := ⟨⟨by decide +kernel, by decide +kernel, by decide +kernel⟩, by decide⟩
theorem mX0_area_L : mX0_area.2.2.1 = 4 := rfl
def mX0_border : Md := (yX0_border, cX0_border, 4, (Option.some Jvm.ClassFile.FieldType.int), [(0, 9, 12, 27), (0, 9, 15, 39)])
theorem ok_X0_border : MdOK mX0_border 3 := ⟨⟨by decide +kernel, by decide +kernel, by decide +kernel⟩, by decide⟩
theorem mX0_border_L : mX0_border.2.2.1 = 4 := rfl
def mX0_inner : Md := (yX0_inner, cX0_inner, 4, (Option.some Jvm.ClassFile.FieldType.int), [(0, 9, 12, 27), (0, 9, 15, 39)])
theorem ok_X0_inner : MdOK mX0_inner 3 := ⟨⟨by decide +kernel, by decide +kernel, by decide +kernel⟩, by decide⟩
theorem mX0_inner_L : mX0_inner.2.2.1 = 4 := rfl
def mX0_dents : Md := (yX0_dents, cX0_dents, 4, (Option.some Jvm.ClassFile.FieldType.int), [(0, 9, 12, 27), (0, 9, 15, 39)])
theorem ok_X0_dents : MdOK mX0_dents 3 := ⟨⟨by decide +kernel, by decide +kernel, by decide +kernel⟩, by decide⟩
theorem mX0_dents_L : mX0_dents.2.2.1 = 4 := rfl
def mX0_parent : Md := (yX0_parent, cX0_parent, 4, (Option.some Jvm.ClassFile.FieldType.int), [(0, 9, 12, 27), (0, 9, 15, 39)])
theorem ok_X0_parent : MdOK mX0_parent 3 := ⟨⟨by decide +kernel, by decide +kernel, by decide +kernel⟩, by decide⟩
theorem mX0_parent_L : mX0_parent.2.2.1 = 4 := rfl
def mX0_score : Md := (yX0_score, cX0_score, 4, (Option.some Jvm.ClassFile.FieldType.int), [(0, 9, 12, 27), (0, 9, 15, 39)])
theorem ok_X0_score : MdOK mX0_score 3 := ⟨⟨by decide +kernel, by decide +kernel, by decide +kernel⟩, by decide⟩
theorem mX0_score_L : mX0_score.2.2.1 = 4 := rfl
def mX0_points : Md := (yX0_points, cX0_points, 4, (Option.some Jvm.ClassFile.FieldType.int), [(0, 9, 12, 13)])
theorem ok_X0_points : MdOK mX0_points 3 := ⟨⟨by decide +kernel, by decide +kernel, by decide +kernel⟩, by decide⟩
theorem mX0_points_L : mX0_points.2.2.1 = 4 := rfl
def mX0_begin : Md := (yX0_begin, cX0_begin, 6, (Option.some Jvm.ClassFile.FieldType.int), [(0, 12, 15, 13), (0, 12, 19, 39)])
theorem ok_X0_begin : MdOK mX0_begin 5 := ⟨⟨by decide +kernel, by decide +kernel, by decide +kernel⟩, by decide⟩
theorem mX0_begin_L : mX0_begin.2.2.1 = 6 := rfl
def mX0_corner : Md := (yX0_corner, cX0_corner, 6, (Option.some Jvm.ClassFile.FieldType.int), [(0, 12, 15, 27), (0, 12, 19, 13)])
theorem ok_X0_corner : MdOK mX0_corner 5 := ⟨⟨by decide +kernel, by decide +kernel, by decide +kernel⟩, by decide⟩
theorem mX0_corner_L : mX0_corner.2.2.1 = 6 := rfl
def mX0_close : Md := (yX0_close, cX0_close, 4, (Option.some Jvm.ClassFile.FieldType.int), [(0, 9, 12, 27)])
theorem ok_X0_close : MdOK mX0_close 3 := ⟨⟨by decide +kernel, by decide +kernel, by decide +kernel⟩, by decide⟩
theorem mX0_close_L : mX0_close.2.2.1 = 4 := rfl
def mX0_bend : Md := (yX0_bend, cX0_bend, 7, (Option.some Jvm.ClassFile.FieldType.int), [(0, 14, 17, 27), (0, 14, 21, 22), (0, 14, 25, 13)])
theorem ok_X0_bend : MdOK mX0_bend 6 := ⟨⟨by decide +kernel, by decide +kernel, by decide +kernel⟩, by decide⟩
theorem mX0_bend_L : mX0_bend.2.2.1 = 7 := rfl
def mX0_takeOut : Md := (yX0_takeOut, cX0_takeOut, 5, (Option.some Jvm.ClassFile.FieldType.int), [(0, 10, 13, 27), (0, 10, 17, 22)])
theorem ok_X0_takeOut : MdOK mX0_takeOut 4 := ⟨⟨by decide +kernel, by decide +kernel, by decide +kernel⟩, by decide⟩
theorem mX0_takeOut_L : mX0_takeOut.2.2.1 = 5 := rfl
def mX0_remove : Md := (yX0_remove, cX0_remove, 4, (Option.some Jvm.ClassFile.FieldType.int), [(0, 9, 12, 27)])
theorem ok_X0_remove : MdOK mX0_remove 3 := ⟨⟨by decide +kernel, by decide +kernel, by decide +kernel⟩, by decide⟩
theorem mX0_remove_L : mX0_remove.2.2.1 = 4 := rfl
def mX1_init : Md := (yX1_init, cX1_init, 1, (Option.none : Option Jvm.ClassFile.FieldType), [])
theorem ok_X1_init : MdOK mX1_init 0 := ⟨⟨by decide +kernel, by decide +kernel, by decide +kernel⟩, by decide⟩
theorem mX1_init_L : mX1_init.2.2.1 = 1 := rfl
def mX1_variable : Md := (yX1_variable, cX1_variable, 3, (Option.some (Jvm.ClassFile.FieldType.object "CornerClaims$Score")), [])
theorem ok_X1_variable : MdOK mX1_variable 1 := ⟨⟨by decide +kernel, by decide +kernel, by decide +kernel⟩, by decide⟩
theorem mX1_variable_L : mX1_variable.2.2.1 = 3 := rfl
def mX1_lambda_variable_1 : Md := (yX1_lambda_variable_1, cX1_lambda_variable_1, 5, (Option.some Jvm.ClassFile.FieldType.long), [])
theorem ok_X1_lambda_variable_1 : MdOK mX1_lambda_variable_1 5 := ⟨⟨by decide +kernel, by decide +kernel, by decide +kernel⟩, by decide⟩
theorem mX1_lambda_variable_1_L : mX1_lambda_variable_1.2.2.1 = 5 := rfl
def mX1_lambda_variable_2 : Md := (yX1_lambda_variable_2, cX1_lambda_variable_2, 5, (Option.some Jvm.ClassFile.FieldType.long), [])
theorem ok_X1_lambda_variable_2 : MdOK mX1_lambda_variable_2 5 := ⟨⟨by decide +kernel, by decide +kernel, by decide +kernel⟩, by decide⟩
theorem mX1_lambda_variable_2_L : mX1_lambda_variable_2.2.2.1 = 5 := rfl
def mX1_lambda_variable_3 : Md := (yX1_lambda_variable_3, cX1_lambda_variable_3, 5, (Option.some Jvm.ClassFile.FieldType.long), [])
theorem ok_X1_lambda_variable_3 : MdOK mX1_lambda_variable_3 5 := ⟨⟨by decide +kernel, by decide +kernel, by decide +kernel⟩, by decide⟩
theorem mX1_lambda_variable_3_L : mX1_lambda_variable_3.2.2.1 = 5 := rfl
def mX1_lambda_variable_4 : Md := (yX1_lambda_variable_4, cX1_lambda_variable_4, 5, (Option.some Jvm.ClassFile.FieldType.long), [])
theorem ok_X1_lambda_variable_4 : MdOK mX1_lambda_variable_4 5 := ⟨⟨by decide +kernel, by decide +kernel, by decide +kernel⟩, by decide⟩
theorem mX1_lambda_variable_4_L : mX1_lambda_variable_4.2.2.1 = 5 := rfl
def mX1_lambda_variable_5 : Md := (yX1_lambda_variable_5, cX1_lambda_variable_5, 5, (Option.some Jvm.ClassFile.FieldType.long), [])
theorem ok_X1_lambda_variable_5 : MdOK mX1_lambda_variable_5 5 := ⟨⟨by decide +kernel, by decide +kernel, by decide +kernel⟩, by decide⟩
theorem mX1_lambda_variable_5_L : mX1_lambda_variable_5.2.2.1 = 5 := rfl
def mX1_operation : Md := (yX1_operation, cX1_operation, 3, (Option.some (Jvm.ClassFile.FieldType.object "CornerClaims$Score")), [])
theorem ok_X1_operation : MdOK mX1_operation 3 := ⟨⟨by decide +kernel, by decide +kernel, by decide +kernel⟩, by decide⟩
theorem mX1_operation_L : mX1_operation.2.2.1 = 3 := rfl
def mX1_lambda_operation_0 : Md := (yX1_lambda_operation_0, cX1_lambda_operation_0, 14, (Option.some Jvm.ClassFile.FieldType.long), [])
theorem ok_X1_lambda_operation_0 : MdOK mX1_lambda_operation_0 8 := ⟨⟨by decide +kernel, by decide +kernel, by decide +kernel⟩, by decide⟩
theorem mX1_lambda_operation_0_L : mX1_lambda_operation_0.2.2.1 = 14 := rfl
def mX1_append : Md := (yX1_append, cX1_append, 6, (Option.some Jvm.ClassFile.FieldType.int), [])
theorem ok_X1_append : MdOK mX1_append 5 := ⟨⟨by decide +kernel, by decide +kernel, by decide +kernel⟩, by decide⟩
theorem mX1_append_L : mX1_append.2.2.1 = 6 := rfl
def mX1_put : Md := (yX1_put, cX1_put, 3, (Option.none : Option Jvm.ClassFile.FieldType), [])
theorem ok_X1_put : MdOK mX1_put 1 := ⟨⟨by decide +kernel, by decide +kernel, by decide +kernel⟩, by decide⟩
theorem mX1_put_L : mX1_put.2.2.1 = 3 := rfl
def mX1_errorOffset : Md := (yX1_errorOffset, cX1_errorOffset, 1, (Option.some Jvm.ClassFile.FieldType.int), [])
theorem ok_X1_errorOffset : MdOK mX1_errorOffset 0 := ⟨⟨by decide +kernel, by decide +kernel, by decide +kernel⟩, by decide⟩
theorem mX1_errorOffset_L : mX1_errorOffset.2.2.1 = 1 := rfl
def mX1_leader : Md := (yX1_leader, cX1_leader, 3, (Option.some Jvm.ClassFile.FieldType.int), [])
theorem ok_X1_leader : MdOK mX1_leader 0 := ⟨⟨by decide +kernel, by decide +kernel, by decide +kernel⟩, by decide⟩
theorem mX1_leader_L : mX1_leader.2.2.1 = 3 := rfl
def mX1_isOn : Md := (yX1_isOn, cX1_isOn, 3, (Option.some Jvm.ClassFile.FieldType.boolean), [])
theorem ok_X1_isOn : MdOK mX1_isOn 3 := ⟨⟨by decide +kernel, by decide +kernel, by decide +kernel⟩, by decide⟩
theorem mX1_isOn_L : mX1_isOn.2.2.1 = 3 := rfl
def mX1_turn : Md := (yX1_turn, cX1_turn, 3, (Option.some Jvm.ClassFile.FieldType.int), [])
theorem ok_X1_turn : MdOK mX1_turn 3 := ⟨⟨by decide +kernel, by decide +kernel, by decide +kernel⟩, by decide⟩
theorem mX1_turn_L : mX1_turn.2.2.1 = 3 := rfl
def mX1_isBetween : Md := (yX1_isBetween, cX1_isBetween, 6, (Option.some Jvm.ClassFile.FieldType.boolean), [])
theorem ok_X1_isBetween : MdOK mX1_isBetween 3 := ⟨⟨by decide +kernel, by decide +kernel, by decide +kernel⟩, by decide⟩
theorem mX1_isBetween_L : mX1_isBetween.2.2.1 = 6 := rfl
def mX1_divisor : Md := (yX1_divisor, cX1_divisor, 2, (Option.some Jvm.ClassFile.FieldType.int), [])
theorem ok_X1_divisor : MdOK mX1_divisor 2 := ⟨⟨by decide +kernel, by decide +kernel, by decide +kernel⟩, by decide⟩
theorem mX1_divisor_L : mX1_divisor.2.2.1 = 2 := rfl
def mX1_undo : Md := (yX1_undo, cX1_undo, 1, (Option.some Jvm.ClassFile.FieldType.int), [])
theorem ok_X1_undo : MdOK mX1_undo 0 := ⟨⟨by decide +kernel, by decide +kernel, by decide +kernel⟩, by decide⟩
theorem mX1_undo_L : mX1_undo.2.2.1 = 1 := rfl
def mX1_checksum : Md := (yX1_checksum, cX1_checksum, 6, (Option.some Jvm.ClassFile.FieldType.long), [])
theorem ok_X1_checksum : MdOK mX1_checksum 0 := ⟨⟨by decide +kernel, by decide +kernel, by decide +kernel⟩, by decide⟩
theorem mX1_checksum_L : mX1_checksum.2.2.1 = 6 := rfl
def mX1_hash : Md := (yX1_hash, cX1_hash, 4, (Option.some Jvm.ClassFile.FieldType.long), [])
theorem ok_X1_hash : MdOK mX1_hash 2 := ⟨⟨by decide +kernel, by decide +kernel, by decide +kernel⟩, by decide⟩
theorem mX1_hash_L : mX1_hash.2.2.1 = 4 := rfl
def mX1_load : Md := (yX1_load, cX1_load, 3, (Option.some Jvm.ClassFile.FieldType.int), [(24, 52, 53, 198)])
theorem ok_X1_load : MdOK mX1_load 1 := ⟨⟨by decide +kernel, by decide +kernel, by decide +kernel⟩, by decide⟩
theorem mX1_load_L : mX1_load.2.2.1 = 3 := rfl
def mX1_requireArgument : Md := (yX1_requireArgument, cX1_requireArgument, 1, (Option.none : Option Jvm.ClassFile.FieldType), [])
theorem ok_X1_requireArgument : MdOK mX1_requireArgument 1 := ⟨⟨by decide +kernel, by decide +kernel, by decide +kernel⟩, by decide⟩
theorem mX1_requireArgument_L : mX1_requireArgument.2.2.1 = 1 := rfl
def mX1_meets : Md := (yX1_meets, cX1_meets, 6, (Option.some Jvm.ClassFile.FieldType.boolean), [])
theorem ok_X1_meets : MdOK mX1_meets 4 := ⟨⟨by decide +kernel, by decide +kernel, by decide +kernel⟩, by decide⟩
theorem mX1_meets_L : mX1_meets.2.2.1 = 6 := rfl
def mX1_cross : Md := (yX1_cross, cX1_cross, 4, (Option.some Jvm.ClassFile.FieldType.boolean), [])
theorem ok_X1_cross : MdOK mX1_cross 4 := ⟨⟨by decide +kernel, by decide +kernel, by decide +kernel⟩, by decide⟩
theorem mX1_cross_L : mX1_cross.2.2.1 = 4 := rfl
def mX1_replace : Md := (yX1_replace, cX1_replace, 2, (Option.none : Option Jvm.ClassFile.FieldType), [])
theorem ok_X1_replace : MdOK mX1_replace 1 := ⟨⟨by decide +kernel, by decide +kernel, by decide +kernel⟩, by decide⟩
theorem mX1_replace_L : mX1_replace.2.2.1 = 2 := rfl
def mX1_count : Md := (yX1_count, cX1_count, 2, (Option.some Jvm.ClassFile.FieldType.int), [])
theorem ok_X1_count : MdOK mX1_count 1 := ⟨⟨by decide +kernel, by decide +kernel, by decide +kernel⟩, by decide⟩
theorem mX1_count_L : mX1_count.2.2.1 = 2 := rfl
def mX1_stone : Md := (yX1_stone, cX1_stone, 3, (Option.some Jvm.ClassFile.FieldType.int), [])
theorem ok_X1_stone : MdOK mX1_stone 2 := ⟨⟨by decide +kernel, by decide +kernel, by decide +kernel⟩, by decide⟩
theorem mX1_stone_L : mX1_stone.2.2.1 = 3 := rfl
def mX1_requireElement : Md := (yX1_requireElement, cX1_requireElement, 2, (Option.none : Option Jvm.ClassFile.FieldType), [])
theorem ok_X1_requireElement : MdOK mX1_requireElement 2 := ⟨⟨by decide +kernel, by decide +kernel, by decide +kernel⟩, by decide⟩
theorem mX1_requireElement_L : mX1_requireElement.2.2.1 = 2 := rfl
def mX1_polygon : Md := (yX1_polygon, cX1_polygon, 4, (Option.some Jvm.ClassFile.FieldType.int), [])
theorem ok_X1_polygon : MdOK mX1_polygon 2 := ⟨⟨by decide +kernel, by decide +kernel, by decide +kernel⟩, by decide⟩
theorem mX1_polygon_L : mX1_polygon.2.2.1 = 4 := rfl
def mX1_polygonAt : Md := (yX1_polygonAt, cX1_polygonAt, 2, (Option.some (Jvm.ClassFile.FieldType.object "CornerClaims$Polygon")), [])
theorem ok_X1_polygonAt : MdOK mX1_polygonAt 1 := ⟨⟨by decide +kernel, by decide +kernel, by decide +kernel⟩, by decide⟩
theorem mX1_polygonAt_L : mX1_polygonAt.2.2.1 = 2 := rfl
def mX1_cornerAt : Md := (yX1_cornerAt, cX1_cornerAt, 4, (Option.some Jvm.ClassFile.FieldType.int), [])
theorem ok_X1_cornerAt : MdOK mX1_cornerAt 2 := ⟨⟨by decide +kernel, by decide +kernel, by decide +kernel⟩, by decide⟩
theorem mX1_cornerAt_L : mX1_cornerAt.2.2.1 = 4 := rfl
def mX1_reason : Md := (yX1_reason, cX1_reason, 5, (Option.some Jvm.ClassFile.FieldType.int), [])
theorem ok_X1_reason : MdOK mX1_reason 3 := ⟨⟨by decide +kernel, by decide +kernel, by decide +kernel⟩, by decide⟩
theorem mX1_reason_L : mX1_reason.2.2.1 = 5 := rfl
def mX1_pointAt : Md := (yX1_pointAt, cX1_pointAt, 3, (Option.some (Jvm.ClassFile.FieldType.object "CornerClaims$Point")), [])
theorem ok_X1_pointAt : MdOK mX1_pointAt 2 := ⟨⟨by decide +kernel, by decide +kernel, by decide +kernel⟩, by decide⟩
theorem mX1_pointAt_L : mX1_pointAt.2.2.1 = 3 := rfl
def mX1_where : Md := (yX1_where, cX1_where, 6, (Option.some Jvm.ClassFile.FieldType.int), [])
theorem ok_X1_where : MdOK mX1_where 3 := ⟨⟨by decide +kernel, by decide +kernel, by decide +kernel⟩, by decide⟩
theorem mX1_where_L : mX1_where.2.2.1 = 6 := rfl
def mX1_requireState : Md := (yX1_requireState, cX1_requireState, 1, (Option.none : Option Jvm.ClassFile.FieldType), [])
theorem ok_X1_requireState : MdOK mX1_requireState 1 := ⟨⟨by decide +kernel, by decide +kernel, by decide +kernel⟩, by decide⟩
theorem mX1_requireState_L : mX1_requireState.2.2.1 = 1 := rfl
def mX1_area : Md := (yX1_area, cX1_area, 2, (Option.some Jvm.ClassFile.FieldType.int), [])
theorem ok_X1_area : MdOK mX1_area 1 := ⟨⟨by decide +kernel, by decide +kernel, by decide +kernel⟩, by decide⟩
theorem mX1_area_L : mX1_area.2.2.1 = 2 := rfl
def mX1_closedAt : Md := (yX1_closedAt, cX1_closedAt, 3, (Option.some (Jvm.ClassFile.FieldType.object "CornerClaims$Polygon")), [])
theorem ok_X1_closedAt : MdOK mX1_closedAt 1 := ⟨⟨by decide +kernel, by decide +kernel, by decide +kernel⟩, by decide⟩
theorem mX1_closedAt_L : mX1_closedAt.2.2.1 = 3 := rfl
def mX1_border : Md := (yX1_border, cX1_border, 2, (Option.some Jvm.ClassFile.FieldType.int), [])
theorem ok_X1_border : MdOK mX1_border 1 := ⟨⟨by decide +kernel, by decide +kernel, by decide +kernel⟩, by decide⟩
theorem mX1_border_L : mX1_border.2.2.1 = 2 := rfl
def mX1_inner : Md := (yX1_inner, cX1_inner, 2, (Option.some Jvm.ClassFile.FieldType.int), [])
theorem ok_X1_inner : MdOK mX1_inner 1 := ⟨⟨by decide +kernel, by decide +kernel, by decide +kernel⟩, by decide⟩
theorem mX1_inner_L : mX1_inner.2.2.1 = 2 := rfl
def mX1_dents : Md := (yX1_dents, cX1_dents, 2, (Option.some Jvm.ClassFile.FieldType.int), [])
theorem ok_X1_dents : MdOK mX1_dents 1 := ⟨⟨by decide +kernel, by decide +kernel, by decide +kernel⟩, by decide⟩
theorem mX1_dents_L : mX1_dents.2.2.1 = 2 := rfl
def mX1_parent : Md := (yX1_parent, cX1_parent, 2, (Option.some Jvm.ClassFile.FieldType.int), [])
theorem ok_X1_parent : MdOK mX1_parent 1 := ⟨⟨by decide +kernel, by decide +kernel, by decide +kernel⟩, by decide⟩
theorem mX1_parent_L : mX1_parent.2.2.1 = 2 := rfl
def mX1_score : Md := (yX1_score, cX1_score, 3, (Option.some Jvm.ClassFile.FieldType.int), [])
theorem ok_X1_score : MdOK mX1_score 1 := ⟨⟨by decide +kernel, by decide +kernel, by decide +kernel⟩, by decide⟩
theorem mX1_score_L : mX1_score.2.2.1 = 3 := rfl
def mX1_points : Md := (yX1_points, cX1_points, 2, (Option.some Jvm.ClassFile.FieldType.int), [])
theorem ok_X1_points : MdOK mX1_points 1 := ⟨⟨by decide +kernel, by decide +kernel, by decide +kernel⟩, by decide⟩
theorem mX1_points_L : mX1_points.2.2.1 = 2 := rfl
def mX1_requirePlayer : Md := (yX1_requirePlayer, cX1_requirePlayer, 1, (Option.none : Option Jvm.ClassFile.FieldType), [])
theorem ok_X1_requirePlayer : MdOK mX1_requirePlayer 1 := ⟨⟨by decide +kernel, by decide +kernel, by decide +kernel⟩, by decide⟩
theorem mX1_requirePlayer_L : mX1_requirePlayer.2.2.1 = 1 := rfl
def mX1_begin : Md := (yX1_begin, cX1_begin, 7, (Option.some Jvm.ClassFile.FieldType.int), [])
theorem ok_X1_begin : MdOK mX1_begin 3 := ⟨⟨by decide +kernel, by decide +kernel, by decide +kernel⟩, by decide⟩
theorem mX1_begin_L : mX1_begin.2.2.1 = 7 := rfl
def mX1_change : Md := (yX1_change, cX1_change, 1, (Option.some (Jvm.ClassFile.FieldType.object "CornerClaims$Field")), [])
theorem ok_X1_change : MdOK mX1_change 0 := ⟨⟨by decide +kernel, by decide +kernel, by decide +kernel⟩, by decide⟩
theorem mX1_change_L : mX1_change.2.2.1 = 1 := rfl
def mX1_corner : Md := (yX1_corner, cX1_corner, 6, (Option.some Jvm.ClassFile.FieldType.int), [])
theorem ok_X1_corner : MdOK mX1_corner 3 := ⟨⟨by decide +kernel, by decide +kernel, by decide +kernel⟩, by decide⟩
theorem mX1_corner_L : mX1_corner.2.2.1 = 6 := rfl
def mX1_close : Md := (yX1_close, cX1_close, 4, (Option.some Jvm.ClassFile.FieldType.int), [])
theorem ok_X1_close : MdOK mX1_close 1 := ⟨⟨by decide +kernel, by decide +kernel, by decide +kernel⟩, by decide⟩
theorem mX1_close_L : mX1_close.2.2.1 = 4 := rfl
def mX1_bend : Md := (yX1_bend, cX1_bend, 9, (Option.some Jvm.ClassFile.FieldType.int), [])
theorem ok_X1_bend : MdOK mX1_bend 4 := ⟨⟨by decide +kernel, by decide +kernel, by decide +kernel⟩, by decide⟩
theorem mX1_bend_L : mX1_bend.2.2.1 = 9 := rfl
def mX1_takeOut : Md := (yX1_takeOut, cX1_takeOut, 7, (Option.some Jvm.ClassFile.FieldType.int), [])
theorem ok_X1_takeOut : MdOK mX1_takeOut 2 := ⟨⟨by decide +kernel, by decide +kernel, by decide +kernel⟩, by decide⟩
theorem mX1_takeOut_L : mX1_takeOut.2.2.1 = 7 := rfl
def mX1_remove : Md := (yX1_remove, cX1_remove, 5, (Option.some Jvm.ClassFile.FieldType.int), [])
theorem ok_X1_remove : MdOK mX1_remove 1 := ⟨⟨by decide +kernel, by decide +kernel, by decide +kernel⟩, by decide⟩
theorem mX1_remove_L : mX1_remove.2.2.1 = 5 := rfl
def mX2_init : Md := (yX2_init, cX2_init, 2, (Option.none : Option Jvm.ClassFile.FieldType), [])
theorem ok_X2_init : MdOK mX2_init 1 := ⟨⟨by decide +kernel, by decide +kernel, by decide +kernel⟩, by decide⟩
theorem mX2_init_L : mX2_init.2.2.1 = 2 := rfl
def mX2_points : Md := (yX2_points, cX2_points, 4, (Option.some Jvm.ClassFile.FieldType.int), [])
theorem ok_X2_points : MdOK mX2_points 1 := ⟨⟨by decide +kernel, by decide +kernel, by decide +kernel⟩, by decide⟩
theorem mX2_points_L : mX2_points.2.2.1 = 4 := rfl
def mX2_score : Md := (yX2_score, cX2_score, 6, (Option.some Jvm.ClassFile.FieldType.int), [])
theorem ok_X2_score : MdOK mX2_score 1 := ⟨⟨by decide +kernel, by decide +kernel, by decide +kernel⟩, by decide⟩
theorem mX2_score_L : mX2_score.2.2.1 = 6 := rfl
def mX2_claimedBy : Md := (yX2_claimedBy, cX2_claimedBy, 2, (Option.some Jvm.ClassFile.FieldType.int), [])
theorem ok_X2_claimedBy : MdOK mX2_claimedBy 1 := ⟨⟨by decide +kernel, by decide +kernel, by decide +kernel⟩, by decide⟩
theorem mX2_claimedBy_L : mX2_claimedBy.2.2.1 = 2 := rfl
def mX2_innermost : Md := (yX2_innermost, cX2_innermost, 5, (Option.some Jvm.ClassFile.FieldType.int), [])
theorem ok_X2_innermost : MdOK mX2_innermost 1 := ⟨⟨by decide +kernel, by decide +kernel, by decide +kernel⟩, by decide⟩
theorem mX2_innermost_L : mX2_innermost.2.2.1 = 5 := rfl
def mX2_isTaken : Md := (yX2_isTaken, cX2_isTaken, 2, (Option.some Jvm.ClassFile.FieldType.boolean), [])
theorem ok_X2_isTaken : MdOK mX2_isTaken 1 := ⟨⟨by decide +kernel, by decide +kernel, by decide +kernel⟩, by decide⟩
theorem mX2_isTaken_L : mX2_isTaken.2.2.1 = 2 := rfl
def mX2_isCorner : Md := (yX2_isCorner, cX2_isCorner, 3, (Option.some Jvm.ClassFile.FieldType.boolean), [])
theorem ok_X2_isCorner : MdOK mX2_isCorner 1 := ⟨⟨by decide +kernel, by decide +kernel, by decide +kernel⟩, by decide⟩
theorem mX2_isCorner_L : mX2_isCorner.2.2.1 = 3 := rfl
def mX2_isOnSide : Md := (yX2_isOnSide, cX2_isOnSide, 5, (Option.some Jvm.ClassFile.FieldType.boolean), [])
theorem ok_X2_isOnSide : MdOK mX2_isOnSide 1 := ⟨⟨by decide +kernel, by decide +kernel, by decide +kernel⟩, by decide⟩
theorem mX2_isOnSide_L : mX2_isOnSide.2.2.1 = 5 := rfl
def mX2_cornerReason : Md := (yX2_cornerReason, cX2_cornerReason, 3, (Option.some Jvm.ClassFile.FieldType.int), [])
theorem ok_X2_cornerReason : MdOK mX2_cornerReason 2 := ⟨⟨by decide +kernel, by decide +kernel, by decide +kernel⟩, by decide⟩
theorem mX2_cornerReason_L : mX2_cornerReason.2.2.1 = 3 := rfl
def mX2_lineReason : Md := (yX2_lineReason, cX2_lineReason, 11, (Option.some Jvm.ClassFile.FieldType.int), [])
theorem ok_X2_lineReason : MdOK mX2_lineReason 6 := ⟨⟨by decide +kernel, by decide +kernel, by decide +kernel⟩, by decide⟩
theorem mX2_lineReason_L : mX2_lineReason.2.2.1 = 11 := rfl
def mX2_passes : Md := (yX2_passes, cX2_passes, 8, (Option.some Jvm.ClassFile.FieldType.boolean), [])
theorem ok_X2_passes : MdOK mX2_passes 3 := ⟨⟨by decide +kernel, by decide +kernel, by decide +kernel⟩, by decide⟩
theorem mX2_passes_L : mX2_passes.2.2.1 = 8 := rfl
def mX2_closeReason : Md := (yX2_closeReason, cX2_closeReason, 2, (Option.some Jvm.ClassFile.FieldType.int), [])
theorem ok_X2_closeReason : MdOK mX2_closeReason 1 := ⟨⟨by decide +kernel, by decide +kernel, by decide +kernel⟩, by decide⟩
theorem mX2_closeReason_L : mX2_closeReason.2.2.1 = 2 := rfl
def mX2_closed : Md := (yX2_closed, cX2_closed, 3, (Option.some Jvm.ClassFile.FieldType.int), [])
theorem ok_X2_closed : MdOK mX2_closed 0 := ⟨⟨by decide +kernel, by decide +kernel, by decide +kernel⟩, by decide⟩
theorem mX2_closed_L : mX2_closed.2.2.1 = 3 := rfl
def mX2_claimed : Md := (yX2_claimed, cX2_claimed, 1, (Option.some Jvm.ClassFile.FieldType.int), [])
theorem ok_X2_claimed : MdOK mX2_claimed 0 := ⟨⟨by decide +kernel, by decide +kernel, by decide +kernel⟩, by decide⟩
theorem mX2_claimed_L : mX2_claimed.2.2.1 = 1 := rfl
def mX2_claims : Md := (yX2_claims, cX2_claims, 4, (Option.some Jvm.ClassFile.FieldType.int), [])
theorem ok_X2_claims : MdOK mX2_claims 1 := ⟨⟨by decide +kernel, by decide +kernel, by decide +kernel⟩, by decide⟩
theorem mX2_claims_L : mX2_claims.2.2.1 = 4 := rfl
def mX2_copy : Md := (yX2_copy, cX2_copy, 3, (Option.some (Jvm.ClassFile.FieldType.object "CornerClaims$Field")), [])
theorem ok_X2_copy : MdOK mX2_copy 0 := ⟨⟨by decide +kernel, by decide +kernel, by decide +kernel⟩, by decide⟩
theorem mX2_copy_L : mX2_copy.2.2.1 = 3 := rfl
def mX2_bendReason : Md := (yX2_bendReason, cX2_bendReason, 5, (Option.some Jvm.ClassFile.FieldType.int), [])
theorem ok_X2_bendReason : MdOK mX2_bendReason 3 := ⟨⟨by decide +kernel, by decide +kernel, by decide +kernel⟩, by decide⟩
theorem mX2_bendReason_L : mX2_bendReason.2.2.1 = 5 := rfl
def mX2_takeOutReason : Md := (yX2_takeOutReason, cX2_takeOutReason, 3, (Option.some Jvm.ClassFile.FieldType.int), [])
theorem ok_X2_takeOutReason : MdOK mX2_takeOutReason 2 := ⟨⟨by decide +kernel, by decide +kernel, by decide +kernel⟩, by decide⟩
theorem mX2_takeOutReason_L : mX2_takeOutReason.2.2.1 = 3 := rfl
def mX3_init : Md := (yX3_init, cX3_init, 3, (Option.none : Option Jvm.ClassFile.FieldType), [])
theorem ok_X3_init : MdOK mX3_init 2 := ⟨⟨by decide +kernel, by decide +kernel, by decide +kernel⟩, by decide⟩
theorem mX3_init_L : mX3_init.2.2.1 = 3 := rfl
def mX3_addStone : Md := (yX3_addStone, cX3_addStone, 4, (Option.none : Option Jvm.ClassFile.FieldType), [])
theorem ok_X3_addStone : MdOK mX3_addStone 2 := ⟨⟨by decide +kernel, by decide +kernel, by decide +kernel⟩, by decide⟩
theorem mX3_addStone_L : mX3_addStone.2.2.1 = 4 := rfl
def mX3_isPoint : Md := (yX3_isPoint, cX3_isPoint, 3, (Option.some Jvm.ClassFile.FieldType.boolean), [])
theorem ok_X3_isPoint : MdOK mX3_isPoint 2 := ⟨⟨by decide +kernel, by decide +kernel, by decide +kernel⟩, by decide⟩
theorem mX3_isPoint_L : mX3_isPoint.2.2.1 = 3 := rfl
def mX4_init : Md := (yX4_init, cX4_init, 1, (Option.none : Option Jvm.ClassFile.FieldType), [])
theorem ok_X4_init : MdOK mX4_init 0 := ⟨⟨by decide +kernel, by decide +kernel, by decide +kernel⟩, by decide⟩
theorem mX4_init_L : mX4_init.2.2.1 = 1 := rfl
def mX4_thrown : Md := (yX4_thrown, cX4_thrown, 1, (Option.some Jvm.ClassFile.FieldType.int), [])
theorem ok_X4_thrown : MdOK mX4_thrown 0 := ⟨⟨by decide +kernel, by decide +kernel, by decide +kernel⟩, by decide⟩
theorem mX4_thrown_L : mX4_thrown.2.2.1 = 1 := rfl
def mX4_append : Md := (yX4_append, cX4_append, 8, (Option.some Jvm.ClassFile.FieldType.int), [])
theorem ok_X4_append : MdOK mX4_append 5 := ⟨⟨by decide +kernel, by decide +kernel, by decide +kernel⟩, by decide⟩
theorem mX4_append_L : mX4_append.2.2.1 = 8 := rfl
def mX4_load : Md := (yX4_load, cX4_load, 3, (Option.some Jvm.ClassFile.FieldType.int), [])
theorem ok_X4_load : MdOK mX4_load 1 := ⟨⟨by decide +kernel, by decide +kernel, by decide +kernel⟩, by decide⟩
theorem mX4_load_L : mX4_load.2.2.1 = 3 := rfl
def mX4_in : Md := (yX4_in, cX4_in, 3, (Option.some Jvm.ClassFile.FieldType.boolean), [])
theorem ok_X4_in : MdOK mX4_in 3 := ⟨⟨by decide +kernel, by decide +kernel, by decide +kernel⟩, by decide⟩
theorem mX4_in_L : mX4_in.2.2.1 = 3 := rfl
def mX4_fails : Md := (yX4_fails, cX4_fails, 3, (Option.some Jvm.ClassFile.FieldType.boolean), [])
theorem ok_X4_fails : MdOK mX4_fails 2 := ⟨⟨by decide +kernel, by decide +kernel, by decide +kernel⟩, by decide⟩
theorem mX4_fails_L : mX4_fails.2.2.1 = 3 := rfl
def mX4_copy : Md := (yX4_copy, cX4_copy, 3, (Option.none : Option Jvm.ClassFile.FieldType), [])
theorem ok_X4_copy : MdOK mX4_copy 2 := ⟨⟨by decide +kernel, by decide +kernel, by decide +kernel⟩, by decide⟩
theorem mX4_copy_L : mX4_copy.2.2.1 = 3 := rfl
def mX4_takeWord : Md := (yX4_takeWord, cX4_takeWord, 3, (Option.some Jvm.ClassFile.FieldType.boolean), [])
theorem ok_X4_takeWord : MdOK mX4_takeWord 1 := ⟨⟨by decide +kernel, by decide +kernel, by decide +kernel⟩, by decide⟩
theorem mX4_takeWord_L : mX4_takeWord.2.2.1 = 3 := rfl
def mX4_isGood : Md := (yX4_isGood, cX4_isGood, 1, (Option.some Jvm.ClassFile.FieldType.boolean), [])
theorem ok_X4_isGood : MdOK mX4_isGood 0 := ⟨⟨by decide +kernel, by decide +kernel, by decide +kernel⟩, by decide⟩
theorem mX4_isGood_L : mX4_isGood.2.2.1 = 1 := rfl
def mX4_next : Md := (yX4_next, cX4_next, 1, (Option.some Jvm.ClassFile.FieldType.int), [])
theorem ok_X4_next : MdOK mX4_next 0 := ⟨⟨by decide +kernel, by decide +kernel, by decide +kernel⟩, by decide⟩
theorem mX4_next_L : mX4_next.2.2.1 = 1 := rfl
def mX4_byteAt : Md := (yX4_byteAt, cX4_byteAt, 2, (Option.some Jvm.ClassFile.FieldType.int), [])
theorem ok_X4_byteAt : MdOK mX4_byteAt 1 := ⟨⟨by decide +kernel, by decide +kernel, by decide +kernel⟩, by decide⟩
theorem mX4_byteAt_L : mX4_byteAt.2.2.1 = 2 := rfl
def mX4_report : Md := (yX4_report, cX4_report, 3, (Option.none : Option Jvm.ClassFile.FieldType), [])
theorem ok_X4_report : MdOK mX4_report 2 := ⟨⟨by decide +kernel, by decide +kernel, by decide +kernel⟩, by decide⟩
theorem mX4_report_L : mX4_report.2.2.1 = 3 := rfl
def mX4_number : Md := (yX4_number, cX4_number, 4, (Option.some Jvm.ClassFile.FieldType.int), [])
theorem ok_X4_number : MdOK mX4_number 2 := ⟨⟨by decide +kernel, by decide +kernel, by decide +kernel⟩, by decide⟩
theorem mX4_number_L : mX4_number.2.2.1 = 4 := rfl
def mX4_isDigit : Md := (yX4_isDigit, cX4_isDigit, 1, (Option.some Jvm.ClassFile.FieldType.boolean), [])
theorem ok_X4_isDigit : MdOK mX4_isDigit 1 := ⟨⟨by decide +kernel, by decide +kernel, by decide +kernel⟩, by decide⟩
theorem mX4_isDigit_L : mX4_isDigit.2.2.1 = 1 := rfl
def mX4_min : Md := (yX4_min, cX4_min, 2, (Option.some Jvm.ClassFile.FieldType.int), [])
theorem ok_X4_min : MdOK mX4_min 2 := ⟨⟨by decide +kernel, by decide +kernel, by decide +kernel⟩, by decide⟩
theorem mX4_min_L : mX4_min.2.2.1 = 2 := rfl
def mX4_expect : Md := (yX4_expect, cX4_expect, 2, (Option.none : Option Jvm.ClassFile.FieldType), [])
theorem ok_X4_expect : MdOK mX4_expect 1 := ⟨⟨by decide +kernel, by decide +kernel, by decide +kernel⟩, by decide⟩
theorem mX4_expect_L : mX4_expect.2.2.1 = 2 := rfl
def mX4_statement : Md := (yX4_statement, cX4_statement, 2, (Option.none : Option Jvm.ClassFile.FieldType), [])
theorem ok_X4_statement : MdOK mX4_statement 0 := ⟨⟨by decide +kernel, by decide +kernel, by decide +kernel⟩, by decide⟩
theorem mX4_statement_L : mX4_statement.2.2.1 = 2 := rfl
def mX4_readStone : Md := (yX4_readStone, cX4_readStone, 6, (Option.none : Option Jvm.ClassFile.FieldType), [])
theorem ok_X4_readStone : MdOK mX4_readStone 1 := ⟨⟨by decide +kernel, by decide +kernel, by decide +kernel⟩, by decide⟩
theorem mX4_readStone_L : mX4_readStone.2.2.1 = 6 := rfl
def mX4_isTaken : Md := (yX4_isTaken, cX4_isTaken, 5, (Option.some Jvm.ClassFile.FieldType.boolean), [])
theorem ok_X4_isTaken : MdOK mX4_isTaken 2 := ⟨⟨by decide +kernel, by decide +kernel, by decide +kernel⟩, by decide⟩
theorem mX4_isTaken_L : mX4_isTaken.2.2.1 = 5 := rfl
def mX4_countOf : Md := (yX4_countOf, cX4_countOf, 2, (Option.some Jvm.ClassFile.FieldType.int), [])
theorem ok_X4_countOf : MdOK mX4_countOf 1 := ⟨⟨by decide +kernel, by decide +kernel, by decide +kernel⟩, by decide⟩
theorem mX4_countOf_L : mX4_countOf.2.2.1 = 2 := rfl
def mX4_at : Md := (yX4_at, cX4_at, 1, (Option.some Jvm.ClassFile.FieldType.int), [])
theorem ok_X4_at : MdOK mX4_at 1 := ⟨⟨by decide +kernel, by decide +kernel, by decide +kernel⟩, by decide⟩
theorem mX4_at_L : mX4_at.2.2.1 = 1 := rfl
def mX4_xOf : Md := (yX4_xOf, cX4_xOf, 3, (Option.some Jvm.ClassFile.FieldType.int), [])
theorem ok_X4_xOf : MdOK mX4_xOf 2 := ⟨⟨by decide +kernel, by decide +kernel, by decide +kernel⟩, by decide⟩
theorem mX4_xOf_L : mX4_xOf.2.2.1 = 3 := rfl
def mX4_yOf : Md := (yX4_yOf, cX4_yOf, 3, (Option.some Jvm.ClassFile.FieldType.int), [])
theorem ok_X4_yOf : MdOK mX4_yOf 2 := ⟨⟨by decide +kernel, by decide +kernel, by decide +kernel⟩, by decide⟩
theorem mX4_yOf_L : mX4_yOf.2.2.1 = 3 := rfl
def mX4_isStone : Md := (yX4_isStone, cX4_isStone, 4, (Option.some Jvm.ClassFile.FieldType.boolean), [])
theorem ok_X4_isStone : MdOK mX4_isStone 2 := ⟨⟨by decide +kernel, by decide +kernel, by decide +kernel⟩, by decide⟩
theorem mX4_isStone_L : mX4_isStone.2.2.1 = 4 := rfl
def mX4_isOnSide : Md := (yX4_isOnSide, cX4_isOnSide, 5, (Option.some Jvm.ClassFile.FieldType.boolean), [])
theorem ok_X4_isOnSide : MdOK mX4_isOnSide 2 := ⟨⟨by decide +kernel, by decide +kernel, by decide +kernel⟩, by decide⟩
theorem mX4_isOnSide_L : mX4_isOnSide.2.2.1 = 5 := rfl
def mX4_sidesOf : Md := (yX4_sidesOf, cX4_sidesOf, 2, (Option.some Jvm.ClassFile.FieldType.int), [])
theorem ok_X4_sidesOf : MdOK mX4_sidesOf 1 := ⟨⟨by decide +kernel, by decide +kernel, by decide +kernel⟩, by decide⟩
theorem mX4_sidesOf_L : mX4_sidesOf.2.2.1 = 2 := rfl
def mX4_isClosed : Md := (yX4_isClosed, cX4_isClosed, 2, (Option.some Jvm.ClassFile.FieldType.boolean), [])
theorem ok_X4_isClosed : MdOK mX4_isClosed 1 := ⟨⟨by decide +kernel, by decide +kernel, by decide +kernel⟩, by decide⟩
theorem mX4_isClosed_L : mX4_isClosed.2.2.1 = 2 := rfl
def mX4_behind : Md := (yX4_behind, cX4_behind, 3, (Option.some Jvm.ClassFile.FieldType.int), [])
theorem ok_X4_behind : MdOK mX4_behind 2 := ⟨⟨by decide +kernel, by decide +kernel, by decide +kernel⟩, by decide⟩
theorem mX4_behind_L : mX4_behind.2.2.1 = 3 := rfl
def mX4_isOn : Md := (yX4_isOn, cX4_isOn, 6, (Option.some Jvm.ClassFile.FieldType.boolean), [])
theorem ok_X4_isOn : MdOK mX4_isOn 6 := ⟨⟨by decide +kernel, by decide +kernel, by decide +kernel⟩, by decide⟩
theorem mX4_isOn_L : mX4_isOn.2.2.1 = 6 := rfl
def mX4_turn : Md := (yX4_turn, cX4_turn, 6, (Option.some Jvm.ClassFile.FieldType.int), [])
theorem ok_X4_turn : MdOK mX4_turn 6 := ⟨⟨by decide +kernel, by decide +kernel, by decide +kernel⟩, by decide⟩
theorem mX4_turn_L : mX4_turn.2.2.1 = 6 := rfl
def mX4_max : Md := (yX4_max, cX4_max, 2, (Option.some Jvm.ClassFile.FieldType.int), [])
theorem ok_X4_max : MdOK mX4_max 2 := ⟨⟨by decide +kernel, by decide +kernel, by decide +kernel⟩, by decide⟩
theorem mX4_max_L : mX4_max.2.2.1 = 2 := rfl
def mX4_readPolygon : Md := (yX4_readPolygon, cX4_readPolygon, 6, (Option.none : Option Jvm.ClassFile.FieldType), [])
theorem ok_X4_readPolygon : MdOK mX4_readPolygon 1 := ⟨⟨by decide +kernel, by decide +kernel, by decide +kernel⟩, by decide⟩
theorem mX4_readPolygon_L : mX4_readPolygon.2.2.1 = 6 := rfl
def mX4_beginPolygon : Md := (yX4_beginPolygon, cX4_beginPolygon, 5, (Option.none : Option Jvm.ClassFile.FieldType), [])
theorem ok_X4_beginPolygon : MdOK mX4_beginPolygon 3 := ⟨⟨by decide +kernel, by decide +kernel, by decide +kernel⟩, by decide⟩
theorem mX4_beginPolygon_L : mX4_beginPolygon.2.2.1 = 5 := rfl
def mX4_putCorner : Md := (yX4_putCorner, cX4_putCorner, 7, (Option.none : Option Jvm.ClassFile.FieldType), [])
theorem ok_X4_putCorner : MdOK mX4_putCorner 4 := ⟨⟨by decide +kernel, by decide +kernel, by decide +kernel⟩, by decide⟩
theorem mX4_putCorner_L : mX4_putCorner.2.2.1 = 7 := rfl
def mX4_cornerReason : Md := (yX4_cornerReason, cX4_cornerReason, 5, (Option.some Jvm.ClassFile.FieldType.int), [])
theorem ok_X4_cornerReason : MdOK mX4_cornerReason 3 := ⟨⟨by decide +kernel, by decide +kernel, by decide +kernel⟩, by decide⟩
theorem mX4_cornerReason_L : mX4_cornerReason.2.2.1 = 5 := rfl
def mX4_goes : Md := (yX4_goes, cX4_goes, 5, (Option.none : Option Jvm.ClassFile.FieldType), [])
theorem ok_X4_goes : MdOK mX4_goes 4 := ⟨⟨by decide +kernel, by decide +kernel, by decide +kernel⟩, by decide⟩
theorem mX4_goes_L : mX4_goes.2.2.1 = 5 := rfl
def mX4_lineReason : Md := (yX4_lineReason, cX4_lineReason, 5, (Option.some Jvm.ClassFile.FieldType.int), [])
theorem ok_X4_lineReason : MdOK mX4_lineReason 4 := ⟨⟨by decide +kernel, by decide +kernel, by decide +kernel⟩, by decide⟩
theorem mX4_lineReason_L : mX4_lineReason.2.2.1 = 5 := rfl
def mX4_isBlocked : Md := (yX4_isBlocked, cX4_isBlocked, 7, (Option.some Jvm.ClassFile.FieldType.boolean), [])
theorem ok_X4_isBlocked : MdOK mX4_isBlocked 4 := ⟨⟨by decide +kernel, by decide +kernel, by decide +kernel⟩, by decide⟩
theorem mX4_isBlocked_L : mX4_isBlocked.2.2.1 = 7 := rfl
def mX4_isWithin : Md := (yX4_isWithin, cX4_isWithin, 6, (Option.some Jvm.ClassFile.FieldType.boolean), [])
theorem ok_X4_isWithin : MdOK mX4_isWithin 6 := ⟨⟨by decide +kernel, by decide +kernel, by decide +kernel⟩, by decide⟩
theorem mX4_isWithin_L : mX4_isWithin.2.2.1 = 6 := rfl
def mX4_isCrossed : Md := (yX4_isCrossed, cX4_isCrossed, 7, (Option.some Jvm.ClassFile.FieldType.boolean), [])
theorem ok_X4_isCrossed : MdOK mX4_isCrossed 4 := ⟨⟨by decide +kernel, by decide +kernel, by decide +kernel⟩, by decide⟩
theorem mX4_isCrossed_L : mX4_isCrossed.2.2.1 = 7 := rfl
def mX4_meet : Md := (yX4_meet, cX4_meet, 8, (Option.some Jvm.ClassFile.FieldType.boolean), [])
theorem ok_X4_meet : MdOK mX4_meet 8 := ⟨⟨by decide +kernel, by decide +kernel, by decide +kernel⟩, by decide⟩
theorem mX4_meet_L : mX4_meet.2.2.1 = 8 := rfl
def mX4_areApart : Md := (yX4_areApart, cX4_areApart, 2, (Option.some Jvm.ClassFile.FieldType.boolean), [])
theorem ok_X4_areApart : MdOK mX4_areApart 2 := ⟨⟨by decide +kernel, by decide +kernel, by decide +kernel⟩, by decide⟩
theorem mX4_areApart_L : mX4_areApart.2.2.1 = 2 := rfl
def mX4_closeReason : Md := (yX4_closeReason, cX4_closeReason, 3, (Option.some Jvm.ClassFile.FieldType.int), [])
theorem ok_X4_closeReason : MdOK mX4_closeReason 1 := ⟨⟨by decide +kernel, by decide +kernel, by decide +kernel⟩, by decide⟩
theorem mX4_closeReason_L : mX4_closeReason.2.2.1 = 3 := rfl
def mX4_once : Md := (yX4_once, cX4_once, 3, (Option.none : Option Jvm.ClassFile.FieldType), [])
theorem ok_X4_once : MdOK mX4_once 2 := ⟨⟨by decide +kernel, by decide +kernel, by decide +kernel⟩, by decide⟩
theorem mX4_once_L : mX4_once.2.2.1 = 3 := rfl
def mX4_sum : Md := (yX4_sum, cX4_sum, 2, (Option.none : Option Jvm.ClassFile.FieldType), [])
theorem ok_X4_sum : MdOK mX4_sum 0 := ⟨⟨by decide +kernel, by decide +kernel, by decide +kernel⟩, by decide⟩
theorem mX4_sum_L : mX4_sum.2.2.1 = 2 := rfl
def mX4_term : Md := (yX4_term, cX4_term, 2, (Option.none : Option Jvm.ClassFile.FieldType), [])
theorem ok_X4_term : MdOK mX4_term 0 := ⟨⟨by decide +kernel, by decide +kernel, by decide +kernel⟩, by decide⟩
theorem mX4_term_L : mX4_term.2.2.1 = 2 := rfl
def mX4_factor : Md := (yX4_factor, cX4_factor, 4, (Option.none : Option Jvm.ClassFile.FieldType), [])
theorem ok_X4_factor : MdOK mX4_factor 0 := ⟨⟨by decide +kernel, by decide +kernel, by decide +kernel⟩, by decide⟩
theorem mX4_factor_L : mX4_factor.2.2.1 = 4 := rfl
def mX4_emit : Md := (yX4_emit, cX4_emit, 2, (Option.none : Option Jvm.ClassFile.FieldType), [])
theorem ok_X4_emit : MdOK mX4_emit 1 := ⟨⟨by decide +kernel, by decide +kernel, by decide +kernel⟩, by decide⟩
theorem mX4_emit_L : mX4_emit.2.2.1 = 2 := rfl
def mX4_push : Md := (yX4_push, cX4_push, 3, (Option.none : Option Jvm.ClassFile.FieldType), [])
theorem ok_X4_push : MdOK mX4_push 1 := ⟨⟨by decide +kernel, by decide +kernel, by decide +kernel⟩, by decide⟩
theorem mX4_push_L : mX4_push.2.2.1 = 3 := rfl
def mX4_errorOffset : Md := (yX4_errorOffset, cX4_errorOffset, 1, (Option.some Jvm.ClassFile.FieldType.int), [])
theorem ok_X4_errorOffset : MdOK mX4_errorOffset 0 := ⟨⟨by decide +kernel, by decide +kernel, by decide +kernel⟩, by decide⟩
theorem mX4_errorOffset_L : mX4_errorOffset.2.2.1 = 1 := rfl
def mX4_count : Md := (yX4_count, cX4_count, 4, (Option.some Jvm.ClassFile.FieldType.int), [])
theorem ok_X4_count : MdOK mX4_count 1 := ⟨⟨by decide +kernel, by decide +kernel, by decide +kernel⟩, by decide⟩
theorem mX4_count_L : mX4_count.2.2.1 = 4 := rfl
def mX4_claimedNow : Md := (yX4_claimedNow, cX4_claimedNow, 3, (Option.some Jvm.ClassFile.FieldType.int), [])
theorem ok_X4_claimedNow : MdOK mX4_claimedNow 0 := ⟨⟨by decide +kernel, by decide +kernel, by decide +kernel⟩, by decide⟩
theorem mX4_claimedNow_L : mX4_claimedNow.2.2.1 = 3 := rfl
def mX4_claimerOf : Md := (yX4_claimerOf, cX4_claimerOf, 2, (Option.some Jvm.ClassFile.FieldType.int), [])
theorem ok_X4_claimerOf : MdOK mX4_claimerOf 1 := ⟨⟨by decide +kernel, by decide +kernel, by decide +kernel⟩, by decide⟩
theorem mX4_claimerOf_L : mX4_claimerOf.2.2.1 = 2 := rfl
def mX4_around : Md := (yX4_around, cX4_around, 6, (Option.some Jvm.ClassFile.FieldType.int), [])
theorem ok_X4_around : MdOK mX4_around 3 := ⟨⟨by decide +kernel, by decide +kernel, by decide +kernel⟩, by decide⟩
theorem mX4_around_L : mX4_around.2.2.1 = 6 := rfl
def mX4_sideOf : Md := (yX4_sideOf, cX4_sideOf, 11, (Option.some Jvm.ClassFile.FieldType.int), [])
theorem ok_X4_sideOf : MdOK mX4_sideOf 3 := ⟨⟨by decide +kernel, by decide +kernel, by decide +kernel⟩, by decide⟩
theorem mX4_sideOf_L : mX4_sideOf.2.2.1 = 11 := rfl
def mX4_areaOf : Md := (yX4_areaOf, cX4_areaOf, 3, (Option.some Jvm.ClassFile.FieldType.int), [])
theorem ok_X4_areaOf : MdOK mX4_areaOf 1 := ⟨⟨by decide +kernel, by decide +kernel, by decide +kernel⟩, by decide⟩
theorem mX4_areaOf_L : mX4_areaOf.2.2.1 = 3 := rfl
def mX4_doubled : Md := (yX4_doubled, cX4_doubled, 4, (Option.some Jvm.ClassFile.FieldType.int), [])
theorem ok_X4_doubled : MdOK mX4_doubled 1 := ⟨⟨by decide +kernel, by decide +kernel, by decide +kernel⟩, by decide⟩
theorem mX4_doubled_L : mX4_doubled.2.2.1 = 4 := rfl
def mX4_stone : Md := (yX4_stone, cX4_stone, 3, (Option.some Jvm.ClassFile.FieldType.int), [])
theorem ok_X4_stone : MdOK mX4_stone 2 := ⟨⟨by decide +kernel, by decide +kernel, by decide +kernel⟩, by decide⟩
theorem mX4_stone_L : mX4_stone.2.2.1 = 3 := rfl
def mX4_polygon : Md := (yX4_polygon, cX4_polygon, 3, (Option.some Jvm.ClassFile.FieldType.int), [])
theorem ok_X4_polygon : MdOK mX4_polygon 2 := ⟨⟨by decide +kernel, by decide +kernel, by decide +kernel⟩, by decide⟩
theorem mX4_polygon_L : mX4_polygon.2.2.1 = 3 := rfl
def mX4_noPolygon : Md := (yX4_noPolygon, cX4_noPolygon, 2, (Option.some Jvm.ClassFile.FieldType.boolean), [])
theorem ok_X4_noPolygon : MdOK mX4_noPolygon 1 := ⟨⟨by decide +kernel, by decide +kernel, by decide +kernel⟩, by decide⟩
theorem mX4_noPolygon_L : mX4_noPolygon.2.2.1 = 2 := rfl
def mX4_cornerAt : Md := (yX4_cornerAt, cX4_cornerAt, 3, (Option.some Jvm.ClassFile.FieldType.int), [])
theorem ok_X4_cornerAt : MdOK mX4_cornerAt 2 := ⟨⟨by decide +kernel, by decide +kernel, by decide +kernel⟩, by decide⟩
theorem mX4_cornerAt_L : mX4_cornerAt.2.2.1 = 3 := rfl
def mX4_reason : Md := (yX4_reason, cX4_reason, 4, (Option.some Jvm.ClassFile.FieldType.int), [])
theorem ok_X4_reason : MdOK mX4_reason 3 := ⟨⟨by decide +kernel, by decide +kernel, by decide +kernel⟩, by decide⟩
theorem mX4_reason_L : mX4_reason.2.2.1 = 4 := rfl
def mX4_noPoint : Md := (yX4_noPoint, cX4_noPoint, 4, (Option.some Jvm.ClassFile.FieldType.boolean), [])
theorem ok_X4_noPoint : MdOK mX4_noPoint 3 := ⟨⟨by decide +kernel, by decide +kernel, by decide +kernel⟩, by decide⟩
theorem mX4_noPoint_L : mX4_noPoint.2.2.1 = 4 := rfl
def mX4_where : Md := (yX4_where, cX4_where, 4, (Option.some Jvm.ClassFile.FieldType.int), [])
theorem ok_X4_where : MdOK mX4_where 3 := ⟨⟨by decide +kernel, by decide +kernel, by decide +kernel⟩, by decide⟩
theorem mX4_where_L : mX4_where.2.2.1 = 4 := rfl
def mX4_area : Md := (yX4_area, cX4_area, 2, (Option.some Jvm.ClassFile.FieldType.int), [])
theorem ok_X4_area : MdOK mX4_area 1 := ⟨⟨by decide +kernel, by decide +kernel, by decide +kernel⟩, by decide⟩
theorem mX4_area_L : mX4_area.2.2.1 = 2 := rfl
def mX4_noClosed : Md := (yX4_noClosed, cX4_noClosed, 2, (Option.some Jvm.ClassFile.FieldType.boolean), [])
theorem ok_X4_noClosed : MdOK mX4_noClosed 1 := ⟨⟨by decide +kernel, by decide +kernel, by decide +kernel⟩, by decide⟩
theorem mX4_noClosed_L : mX4_noClosed.2.2.1 = 2 := rfl
def mX4_border : Md := (yX4_border, cX4_border, 2, (Option.some Jvm.ClassFile.FieldType.int), [])
theorem ok_X4_border : MdOK mX4_border 1 := ⟨⟨by decide +kernel, by decide +kernel, by decide +kernel⟩, by decide⟩
theorem mX4_border_L : mX4_border.2.2.1 = 2 := rfl
def mX4_countAll : Md := (yX4_countAll, cX4_countAll, 6, (Option.some Jvm.ClassFile.FieldType.int), [])
theorem ok_X4_countAll : MdOK mX4_countAll 2 := ⟨⟨by decide +kernel, by decide +kernel, by decide +kernel⟩, by decide⟩
theorem mX4_countAll_L : mX4_countAll.2.2.1 = 6 := rfl
def mX4_inner : Md := (yX4_inner, cX4_inner, 2, (Option.some Jvm.ClassFile.FieldType.int), [])
theorem ok_X4_inner : MdOK mX4_inner 1 := ⟨⟨by decide +kernel, by decide +kernel, by decide +kernel⟩, by decide⟩
theorem mX4_inner_L : mX4_inner.2.2.1 = 2 := rfl
def mX4_dents : Md := (yX4_dents, cX4_dents, 2, (Option.some Jvm.ClassFile.FieldType.int), [])
theorem ok_X4_dents : MdOK mX4_dents 1 := ⟨⟨by decide +kernel, by decide +kernel, by decide +kernel⟩, by decide⟩
theorem mX4_dents_L : mX4_dents.2.2.1 = 2 := rfl
def mX4_dentsOf : Md := (yX4_dentsOf, cX4_dentsOf, 8, (Option.some Jvm.ClassFile.FieldType.int), [])
theorem ok_X4_dentsOf : MdOK mX4_dentsOf 1 := ⟨⟨by decide +kernel, by decide +kernel, by decide +kernel⟩, by decide⟩
theorem mX4_dentsOf_L : mX4_dentsOf.2.2.1 = 8 := rfl
def mX4_ahead : Md := (yX4_ahead, cX4_ahead, 3, (Option.some Jvm.ClassFile.FieldType.int), [])
theorem ok_X4_ahead : MdOK mX4_ahead 2 := ⟨⟨by decide +kernel, by decide +kernel, by decide +kernel⟩, by decide⟩
theorem mX4_ahead_L : mX4_ahead.2.2.1 = 3 := rfl
def mX4_parent : Md := (yX4_parent, cX4_parent, 2, (Option.some Jvm.ClassFile.FieldType.int), [])
theorem ok_X4_parent : MdOK mX4_parent 1 := ⟨⟨by decide +kernel, by decide +kernel, by decide +kernel⟩, by decide⟩
theorem mX4_parent_L : mX4_parent.2.2.1 = 2 := rfl
def mX4_score : Md := (yX4_score, cX4_score, 2, (Option.some Jvm.ClassFile.FieldType.int), [])
theorem ok_X4_score : MdOK mX4_score 1 := ⟨⟨by decide +kernel, by decide +kernel, by decide +kernel⟩, by decide⟩
theorem mX4_score_L : mX4_score.2.2.1 = 2 := rfl
def mX4_scoreOf : Md := (yX4_scoreOf, cX4_scoreOf, 10, (Option.some Jvm.ClassFile.FieldType.int), [])
theorem ok_X4_scoreOf : MdOK mX4_scoreOf 1 := ⟨⟨by decide +kernel, by decide +kernel, by decide +kernel⟩, by decide⟩
theorem mX4_scoreOf_L : mX4_scoreOf.2.2.1 = 10 := rfl
def mX4_operate : Md := (yX4_operate, cX4_operate, 5, (Option.some Jvm.ClassFile.FieldType.long), [])
theorem ok_X4_operate : MdOK mX4_operate 3 := ⟨⟨by decide +kernel, by decide +kernel, by decide +kernel⟩, by decide⟩
theorem mX4_operate_L : mX4_operate.2.2.1 = 5 := rfl
def mX4_limited : Md := (yX4_limited, cX4_limited, 2, (Option.some Jvm.ClassFile.FieldType.long), [])
theorem ok_X4_limited : MdOK mX4_limited 1 := ⟨⟨by decide +kernel, by decide +kernel, by decide +kernel⟩, by decide⟩
theorem mX4_limited_L : mX4_limited.2.2.1 = 2 := rfl
def mX4_points : Md := (yX4_points, cX4_points, 2, (Option.some Jvm.ClassFile.FieldType.int), [])
theorem ok_X4_points : MdOK mX4_points 1 := ⟨⟨by decide +kernel, by decide +kernel, by decide +kernel⟩, by decide⟩
theorem mX4_points_L : mX4_points.2.2.1 = 2 := rfl
def mX4_pointsOf : Md := (yX4_pointsOf, cX4_pointsOf, 4, (Option.some Jvm.ClassFile.FieldType.int), [])
theorem ok_X4_pointsOf : MdOK mX4_pointsOf 1 := ⟨⟨by decide +kernel, by decide +kernel, by decide +kernel⟩, by decide⟩
theorem mX4_pointsOf_L : mX4_pointsOf.2.2.1 = 4 := rfl
def mX4_leader : Md := (yX4_leader, cX4_leader, 5, (Option.some Jvm.ClassFile.FieldType.int), [])
theorem ok_X4_leader : MdOK mX4_leader 0 := ⟨⟨by decide +kernel, by decide +kernel, by decide +kernel⟩, by decide⟩
theorem mX4_leader_L : mX4_leader.2.2.1 = 5 := rfl
def mX4_begin : Md := (yX4_begin, cX4_begin, 4, (Option.some Jvm.ClassFile.FieldType.int), [])
theorem ok_X4_begin : MdOK mX4_begin 3 := ⟨⟨by decide +kernel, by decide +kernel, by decide +kernel⟩, by decide⟩
theorem mX4_begin_L : mX4_begin.2.2.1 = 4 := rfl
def mX4_corner : Md := (yX4_corner, cX4_corner, 5, (Option.some Jvm.ClassFile.FieldType.int), [])
theorem ok_X4_corner : MdOK mX4_corner 3 := ⟨⟨by decide +kernel, by decide +kernel, by decide +kernel⟩, by decide⟩
theorem mX4_corner_L : mX4_corner.2.2.1 = 5 := rfl
def mX4_close : Md := (yX4_close, cX4_close, 5, (Option.some Jvm.ClassFile.FieldType.int), [])
theorem ok_X4_close : MdOK mX4_close 1 := ⟨⟨by decide +kernel, by decide +kernel, by decide +kernel⟩, by decide⟩
theorem mX4_close_L : mX4_close.2.2.1 = 5 := rfl
def mX4_bend : Md := (yX4_bend, cX4_bend, 6, (Option.some Jvm.ClassFile.FieldType.int), [])
theorem ok_X4_bend : MdOK mX4_bend 4 := ⟨⟨by decide +kernel, by decide +kernel, by decide +kernel⟩, by decide⟩
theorem mX4_bend_L : mX4_bend.2.2.1 = 6 := rfl
def mX4_bendReason : Md := (yX4_bendReason, cX4_bendReason, 7, (Option.some Jvm.ClassFile.FieldType.int), [])
theorem ok_X4_bendReason : MdOK mX4_bendReason 4 := ⟨⟨by decide +kernel, by decide +kernel, by decide +kernel⟩, by decide⟩
theorem mX4_bendReason_L : mX4_bendReason.2.2.1 = 7 := rfl
def mX4_takeOut : Md := (yX4_takeOut, cX4_takeOut, 6, (Option.some Jvm.ClassFile.FieldType.int), [])
theorem ok_X4_takeOut : MdOK mX4_takeOut 2 := ⟨⟨by decide +kernel, by decide +kernel, by decide +kernel⟩, by decide⟩
theorem mX4_takeOut_L : mX4_takeOut.2.2.1 = 6 := rfl
def mX4_outReason : Md := (yX4_outReason, cX4_outReason, 5, (Option.some Jvm.ClassFile.FieldType.int), [])
theorem ok_X4_outReason : MdOK mX4_outReason 2 := ⟨⟨by decide +kernel, by decide +kernel, by decide +kernel⟩, by decide⟩
theorem mX4_outReason_L : mX4_outReason.2.2.1 = 5 := rfl
def mX4_remove : Md := (yX4_remove, cX4_remove, 3, (Option.some Jvm.ClassFile.FieldType.int), [])
theorem ok_X4_remove : MdOK mX4_remove 1 := ⟨⟨by decide +kernel, by decide +kernel, by decide +kernel⟩, by decide⟩
theorem mX4_remove_L : mX4_remove.2.2.1 = 3 := rfl
def mX4_undo : Md := (yX4_undo, cX4_undo, 1, (Option.some Jvm.ClassFile.FieldType.int), [])
theorem ok_X4_undo : MdOK mX4_undo 0 := ⟨⟨by decide +kernel, by decide +kernel, by decide +kernel⟩, by decide⟩
theorem mX4_undo_L : mX4_undo.2.2.1 = 1 := rfl
def mX4_checksum : Md := (yX4_checksum, cX4_checksum, 5, (Option.some Jvm.ClassFile.FieldType.long), [])
theorem ok_X4_checksum : MdOK mX4_checksum 0 := ⟨⟨by decide +kernel, by decide +kernel, by decide +kernel⟩, by decide⟩
theorem mX4_checksum_L : mX4_checksum.2.2.1 = 5 := rfl
def mX5_init : Md := (yX5_init, cX5_init, 3, (Option.none : Option Jvm.ClassFile.FieldType), [])
theorem ok_X5_init : MdOK mX5_init 2 := ⟨⟨by decide +kernel, by decide +kernel, by decide +kernel⟩, by decide⟩
theorem mX5_init_L : mX5_init.2.2.1 = 3 := rfl
def mX5_parse : Md := (yX5_parse, cX5_parse, 3, (Option.some (Jvm.ClassFile.FieldType.object "CornerClaims$Field")), [])
theorem ok_X5_parse : MdOK mX5_parse 0 := ⟨⟨by decide +kernel, by decide +kernel, by decide +kernel⟩, by decide⟩
theorem mX5_parse_L : mX5_parse.2.2.1 = 3 := rfl
def mX5_word : Md := (yX5_word, cX5_word, 3, (Option.some (Jvm.ClassFile.FieldType.object "java/lang/String")), [])
theorem ok_X5_word : MdOK mX5_word 0 := ⟨⟨by decide +kernel, by decide +kernel, by decide +kernel⟩, by decide⟩
theorem mX5_word_L : mX5_word.2.2.1 = 3 := rfl
def mX5_peek : Md := (yX5_peek, cX5_peek, 1, (Option.some Jvm.ClassFile.FieldType.int), [])
theorem ok_X5_peek : MdOK mX5_peek 0 := ⟨⟨by decide +kernel, by decide +kernel, by decide +kernel⟩, by decide⟩
theorem mX5_peek_L : mX5_peek.2.2.1 = 1 := rfl
def mX5_isLetterAt : Md := (yX5_isLetterAt, cX5_isLetterAt, 2, (Option.some Jvm.ClassFile.FieldType.boolean), [])
theorem ok_X5_isLetterAt : MdOK mX5_isLetterAt 1 := ⟨⟨by decide +kernel, by decide +kernel, by decide +kernel⟩, by decide⟩
theorem mX5_isLetterAt_L : mX5_isLetterAt.2.2.1 = 2 := rfl
def mX5_require : Md := (yX5_require, cX5_require, 4, (Option.none : Option Jvm.ClassFile.FieldType), [])
theorem ok_X5_require : MdOK mX5_require 3 := ⟨⟨by decide +kernel, by decide +kernel, by decide +kernel⟩, by decide⟩
theorem mX5_require_L : mX5_require.2.2.1 = 4 := rfl
def mX5_number : Md := (yX5_number, cX5_number, 5, (Option.some Jvm.ClassFile.FieldType.int), [])
theorem ok_X5_number : MdOK mX5_number 2 := ⟨⟨by decide +kernel, by decide +kernel, by decide +kernel⟩, by decide⟩
theorem mX5_number_L : mX5_number.2.2.1 = 5 := rfl
def mX5_isDigit : Md := (yX5_isDigit, cX5_isDigit, 1, (Option.some Jvm.ClassFile.FieldType.boolean), [])
theorem ok_X5_isDigit : MdOK mX5_isDigit 0 := ⟨⟨by decide +kernel, by decide +kernel, by decide +kernel⟩, by decide⟩
theorem mX5_isDigit_L : mX5_isDigit.2.2.1 = 1 := rfl
def mX5_expect : Md := (yX5_expect, cX5_expect, 3, (Option.none : Option Jvm.ClassFile.FieldType), [])
theorem ok_X5_expect : MdOK mX5_expect 1 := ⟨⟨by decide +kernel, by decide +kernel, by decide +kernel⟩, by decide⟩
theorem mX5_expect_L : mX5_expect.2.2.1 = 3 := rfl
def mX5_statement : Md := (yX5_statement, cX5_statement, 5, (Option.none : Option Jvm.ClassFile.FieldType), [])
theorem ok_X5_statement : MdOK mX5_statement 0 := ⟨⟨by decide +kernel, by decide +kernel, by decide +kernel⟩, by decide⟩
theorem mX5_statement_L : mX5_statement.2.2.1 = 5 := rfl
def mX5_stone : Md := (yX5_stone, cX5_stone, 3, (Option.none : Option Jvm.ClassFile.FieldType), [])
theorem ok_X5_stone : MdOK mX5_stone 1 := ⟨⟨by decide +kernel, by decide +kernel, by decide +kernel⟩, by decide⟩
theorem mX5_stone_L : mX5_stone.2.2.1 = 3 := rfl
def mX5_point : Md := (yX5_point, cX5_point, 2, (Option.some (Jvm.ClassFile.FieldType.object "CornerClaims$Point")), [])
theorem ok_X5_point : MdOK mX5_point 0 := ⟨⟨by decide +kernel, by decide +kernel, by decide +kernel⟩, by decide⟩
theorem mX5_point_L : mX5_point.2.2.1 = 2 := rfl
def mX5_polygon : Md := (yX5_polygon, cX5_polygon, 5, (Option.none : Option Jvm.ClassFile.FieldType), [])
theorem ok_X5_polygon : MdOK mX5_polygon 1 := ⟨⟨by decide +kernel, by decide +kernel, by decide +kernel⟩, by decide⟩
theorem mX5_polygon_L : mX5_polygon.2.2.1 = 5 := rfl
def mX5_sum : Md := (yX5_sum, cX5_sum, 3, (Option.some (Jvm.ClassFile.FieldType.object "CornerClaims$Score")), [])
theorem ok_X5_sum : MdOK mX5_sum 0 := ⟨⟨by decide +kernel, by decide +kernel, by decide +kernel⟩, by decide⟩
theorem mX5_sum_L : mX5_sum.2.2.1 = 3 := rfl
def mX5_term : Md := (yX5_term, cX5_term, 3, (Option.some (Jvm.ClassFile.FieldType.object "CornerClaims$Score")), [])
theorem ok_X5_term : MdOK mX5_term 0 := ⟨⟨by decide +kernel, by decide +kernel, by decide +kernel⟩, by decide⟩
theorem mX5_term_L : mX5_term.2.2.1 = 3 := rfl
def mX5_factor : Md := (yX5_factor, cX5_factor, 3, (Option.some (Jvm.ClassFile.FieldType.object "CornerClaims$Score")), [])
theorem ok_X5_factor : MdOK mX5_factor 0 := ⟨⟨by decide +kernel, by decide +kernel, by decide +kernel⟩, by decide⟩
theorem mX5_factor_L : mX5_factor.2.2.1 = 3 := rfl
def mX5_lambda_factor_0 : Md := (yX5_lambda_factor_0, cX5_lambda_factor_0, 7, (Option.some Jvm.ClassFile.FieldType.long), [])
theorem ok_X5_lambda_factor_0 : MdOK mX5_lambda_factor_0 6 := ⟨⟨by decide +kernel, by decide +kernel, by decide +kernel⟩, by decide⟩
theorem mX5_lambda_factor_0_L : mX5_lambda_factor_0.2.2.1 = 7 := rfl
def mX6_init : Md := (yX6_init, cX6_init, 3, (Option.none : Option Jvm.ClassFile.FieldType), [])
theorem ok_X6_init : MdOK mX6_init 2 := ⟨⟨by decide +kernel, by decide +kernel, by decide +kernel⟩, by decide⟩
theorem mX6_init_L : mX6_init.2.2.1 = 3 := rfl
def mX7_code : Md := (yX7_code, cX7_code, 1, (Option.some Jvm.ClassFile.FieldType.int), [])
theorem ok_X7_code : MdOK mX7_code 0 := ⟨⟨by decide +kernel, by decide +kernel, by decide +kernel⟩, by decide⟩
theorem mX7_code_L : mX7_code.2.2.1 = 1 := rfl
def mX7_init : Md := (yX7_init, cX7_init, 3, (Option.none : Option Jvm.ClassFile.FieldType), [])
theorem ok_X7_init : MdOK mX7_init 2 := ⟨⟨by decide +kernel, by decide +kernel, by decide +kernel⟩, by decide⟩
theorem mX7_init_L : mX7_init.2.2.1 = 3 := rfl
def mX7_hashCode : Md := (yX7_hashCode, cX7_hashCode, 1, (Option.some Jvm.ClassFile.FieldType.int), [])
theorem ok_X7_hashCode : MdOK mX7_hashCode 0 := ⟨⟨by decide +kernel, by decide +kernel, by decide +kernel⟩, by decide⟩
theorem mX7_hashCode_L : mX7_hashCode.2.2.1 = 1 := rfl
def mX7_equals : Md := (yX7_equals, cX7_equals, 2, (Option.some Jvm.ClassFile.FieldType.boolean), [])
theorem ok_X7_equals : MdOK mX7_equals 1 := ⟨⟨by decide +kernel, by decide +kernel, by decide +kernel⟩, by decide⟩
theorem mX7_equals_L : mX7_equals.2.2.1 = 2 := rfl
def mX8_where : Md := (yX8_where, cX8_where, 7, (Option.some Jvm.ClassFile.FieldType.int), [])
theorem ok_X8_where : MdOK mX8_where 1 := ⟨⟨by decide +kernel, by decide +kernel, by decide +kernel⟩, by decide⟩
theorem mX8_where_L : mX8_where.2.2.1 = 7 := rfl
def mX8_size : Md := (yX8_size, cX8_size, 1, (Option.some Jvm.ClassFile.FieldType.int), [])
theorem ok_X8_size : MdOK mX8_size 0 := ⟨⟨by decide +kernel, by decide +kernel, by decide +kernel⟩, by decide⟩
theorem mX8_size_L : mX8_size.2.2.1 = 1 := rfl
def mX8_at : Md := (yX8_at, cX8_at, 2, (Option.some (Jvm.ClassFile.FieldType.object "CornerClaims$Point")), [])
theorem ok_X8_at : MdOK mX8_at 1 := ⟨⟨by decide +kernel, by decide +kernel, by decide +kernel⟩, by decide⟩
theorem mX8_at_L : mX8_at.2.2.1 = 2 := rfl
def mX8_next : Md := (yX8_next, cX8_next, 2, (Option.some (Jvm.ClassFile.FieldType.object "CornerClaims$Point")), [])
theorem ok_X8_next : MdOK mX8_next 1 := ⟨⟨by decide +kernel, by decide +kernel, by decide +kernel⟩, by decide⟩
theorem mX8_next_L : mX8_next.2.2.1 = 2 := rfl
def mX8_area : Md := (yX8_area, cX8_area, 1, (Option.some Jvm.ClassFile.FieldType.int), [])
theorem ok_X8_area : MdOK mX8_area 0 := ⟨⟨by decide +kernel, by decide +kernel, by decide +kernel⟩, by decide⟩
theorem mX8_area_L : mX8_area.2.2.1 = 1 := rfl
def mX8_signedArea : Md := (yX8_signedArea, cX8_signedArea, 3, (Option.some Jvm.ClassFile.FieldType.int), [])
theorem ok_X8_signedArea : MdOK mX8_signedArea 0 := ⟨⟨by decide +kernel, by decide +kernel, by decide +kernel⟩, by decide⟩
theorem mX8_signedArea_L : mX8_signedArea.2.2.1 = 3 := rfl
def mX8_dents : Md := (yX8_dents, cX8_dents, 4, (Option.some Jvm.ClassFile.FieldType.int), [])
theorem ok_X8_dents : MdOK mX8_dents 0 := ⟨⟨by decide +kernel, by decide +kernel, by decide +kernel⟩, by decide⟩
theorem mX8_dents_L : mX8_dents.2.2.1 = 4 := rfl
def mX8_previous : Md := (yX8_previous, cX8_previous, 2, (Option.some (Jvm.ClassFile.FieldType.object "CornerClaims$Point")), [])
theorem ok_X8_previous : MdOK mX8_previous 1 := ⟨⟨by decide +kernel, by decide +kernel, by decide +kernel⟩, by decide⟩
theorem mX8_previous_L : mX8_previous.2.2.1 = 2 := rfl
def mX8_inner : Md := (yX8_inner, cX8_inner, 1, (Option.some Jvm.ClassFile.FieldType.int), [])
theorem ok_X8_inner : MdOK mX8_inner 0 := ⟨⟨by decide +kernel, by decide +kernel, by decide +kernel⟩, by decide⟩
theorem mX8_inner_L : mX8_inner.2.2.1 = 1 := rfl
def mX8_border : Md := (yX8_border, cX8_border, 3, (Option.some Jvm.ClassFile.FieldType.int), [])
theorem ok_X8_border : MdOK mX8_border 0 := ⟨⟨by decide +kernel, by decide +kernel, by decide +kernel⟩, by decide⟩
theorem mX8_border_L : mX8_border.2.2.1 = 3 := rfl
def mX8_sides : Md := (yX8_sides, cX8_sides, 1, (Option.some Jvm.ClassFile.FieldType.int), [])
theorem ok_X8_sides : MdOK mX8_sides 0 := ⟨⟨by decide +kernel, by decide +kernel, by decide +kernel⟩, by decide⟩
theorem mX8_sides_L : mX8_sides.2.2.1 = 1 := rfl
def mX8_init : Md := (yX8_init, cX8_init, 2, (Option.none : Option Jvm.ClassFile.FieldType), [])
theorem ok_X8_init : MdOK mX8_init 1 := ⟨⟨by decide +kernel, by decide +kernel, by decide +kernel⟩, by decide⟩
theorem mX8_init_L : mX8_init.2.2.1 = 2 := rfl
def mX8_last : Md := (yX8_last, cX8_last, 1, (Option.some (Jvm.ClassFile.FieldType.object "CornerClaims$Point")), [])
theorem ok_X8_last : MdOK mX8_last 0 := ⟨⟨by decide +kernel, by decide +kernel, by decide +kernel⟩, by decide⟩
theorem mX8_last_L : mX8_last.2.2.1 = 1 := rfl
def mX8_copy : Md := (yX8_copy, cX8_copy, 3, (Option.some (Jvm.ClassFile.FieldType.object "CornerClaims$Polygon")), [])
theorem ok_X8_copy : MdOK mX8_copy 0 := ⟨⟨by decide +kernel, by decide +kernel, by decide +kernel⟩, by decide⟩
theorem mX8_copy_L : mX8_copy.2.2.1 = 3 := rfl
