/-! the methods: name, code, locals, answer (printed by gen/mi.py); more rows -/
set_option maxRecDepth 100000
def mJ0_init : MI := (yJ0_init, cJ0_init, 1, none)
theorem vm_J0_init : mJ0_init.1.cls = RJ0 ∧ mJ0_init.1.cls ≠ "java/lang/invoke/MethodHandle" ∧ mJ0_init.1.cls ≠ "java/lang/invoke/VarHandle" ∧ (parseMethodDescriptor mJ0_init.1.desc).map (fun d => d.parameters.length) = some 0 := ⟨rfl, by decide +kernel, by decide +kernel, by decide +kernel⟩
def mJ1_init : MI := (yJ1_init, cJ1_init, 1, none)
theorem vm_J1_init : mJ1_init.1.cls = RJ1 ∧ mJ1_init.1.cls ≠ "java/lang/invoke/MethodHandle" ∧ mJ1_init.1.cls ≠ "java/lang/invoke/VarHandle" ∧ (parseMethodDescriptor mJ1_init.1.desc).map (fun d => d.parameters.length) = some 0 := ⟨rfl, by decide +kernel, by decide +kernel, by decide +kernel⟩
def mJ2_add : MI := (yJ2_add, cJ2_add, 2, (some .boolean))
theorem vm_J2_add : mJ2_add.1.cls = RJ2 ∧ mJ2_add.1.cls ≠ "java/lang/invoke/MethodHandle" ∧ mJ2_add.1.cls ≠ "java/lang/invoke/VarHandle" ∧ (parseMethodDescriptor mJ2_add.1.desc).map (fun d => d.parameters.length) = some 1 := ⟨rfl, by decide +kernel, by decide +kernel, by decide +kernel⟩
def mJ2_add_2 : MI := (yJ2_add_2, cJ2_add_2, 4, none)
theorem vm_J2_add_2 : mJ2_add_2.1.cls = RJ2 ∧ mJ2_add_2.1.cls ≠ "java/lang/invoke/MethodHandle" ∧ mJ2_add_2.1.cls ≠ "java/lang/invoke/VarHandle" ∧ (parseMethodDescriptor mJ2_add_2.1.desc).map (fun d => d.parameters.length) = some 3 := ⟨rfl, by decide +kernel, by decide +kernel, by decide +kernel⟩
def mJ2_elementData : MI := (yJ2_elementData, cJ2_elementData, 2, (some (.object "java/lang/Object")))
theorem vm_J2_elementData : mJ2_elementData.1.cls = RJ2 ∧ mJ2_elementData.1.cls ≠ "java/lang/invoke/MethodHandle" ∧ mJ2_elementData.1.cls ≠ "java/lang/invoke/VarHandle" ∧ (parseMethodDescriptor mJ2_elementData.1.desc).map (fun d => d.parameters.length) = some 1 := ⟨rfl, by decide +kernel, by decide +kernel, by decide +kernel⟩
def mJ2_get : MI := (yJ2_get, cJ2_get, 2, (some (.object "java/lang/Object")))
theorem vm_J2_get : mJ2_get.1.cls = RJ2 ∧ mJ2_get.1.cls ≠ "java/lang/invoke/MethodHandle" ∧ mJ2_get.1.cls ≠ "java/lang/invoke/VarHandle" ∧ (parseMethodDescriptor mJ2_get.1.desc).map (fun d => d.parameters.length) = some 1 := ⟨rfl, by decide +kernel, by decide +kernel, by decide +kernel⟩
def mJ2_grow : MI := (yJ2_grow, cJ2_grow, 1, (some (.array (.object "java/lang/Object"))))
theorem vm_J2_grow : mJ2_grow.1.cls = RJ2 ∧ mJ2_grow.1.cls ≠ "java/lang/invoke/MethodHandle" ∧ mJ2_grow.1.cls ≠ "java/lang/invoke/VarHandle" ∧ (parseMethodDescriptor mJ2_grow.1.desc).map (fun d => d.parameters.length) = some 0 := ⟨rfl, by decide +kernel, by decide +kernel, by decide +kernel⟩
def mJ2_grow_2 : MI := (yJ2_grow_2, cJ2_grow_2, 4, (some (.array (.object "java/lang/Object"))))
theorem vm_J2_grow_2 : mJ2_grow_2.1.cls = RJ2 ∧ mJ2_grow_2.1.cls ≠ "java/lang/invoke/MethodHandle" ∧ mJ2_grow_2.1.cls ≠ "java/lang/invoke/VarHandle" ∧ (parseMethodDescriptor mJ2_grow_2.1.desc).map (fun d => d.parameters.length) = some 1 := ⟨rfl, by decide +kernel, by decide +kernel, by decide +kernel⟩
def mJ2_init : MI := (yJ2_init, cJ2_init, 1, none)
theorem vm_J2_init : mJ2_init.1.cls = RJ2 ∧ mJ2_init.1.cls ≠ "java/lang/invoke/MethodHandle" ∧ mJ2_init.1.cls ≠ "java/lang/invoke/VarHandle" ∧ (parseMethodDescriptor mJ2_init.1.desc).map (fun d => d.parameters.length) = some 0 := ⟨rfl, by decide +kernel, by decide +kernel, by decide +kernel⟩
def mJ2_size : MI := (yJ2_size, cJ2_size, 1, (some .int))
theorem vm_J2_size : mJ2_size.1.cls = RJ2 ∧ mJ2_size.1.cls ≠ "java/lang/invoke/MethodHandle" ∧ mJ2_size.1.cls ≠ "java/lang/invoke/VarHandle" ∧ (parseMethodDescriptor mJ2_size.1.desc).map (fun d => d.parameters.length) = some 0 := ⟨rfl, by decide +kernel, by decide +kernel, by decide +kernel⟩
def mJ3_append : MI := (yJ3_append, cJ3_append, 4, (some (.object "java/lang/AbstractStringBuilder")))
theorem vm_J3_append : mJ3_append.1.cls = RJ3 ∧ mJ3_append.1.cls ≠ "java/lang/invoke/MethodHandle" ∧ mJ3_append.1.cls ≠ "java/lang/invoke/VarHandle" ∧ (parseMethodDescriptor mJ3_append.1.desc).map (fun d => d.parameters.length) = some 1 := ⟨rfl, by decide +kernel, by decide +kernel, by decide +kernel⟩
def mJ3_appendChars : MI := (yJ3_appendChars, cJ3_appendChars, 8, none)
theorem vm_J3_appendChars : mJ3_appendChars.1.cls = RJ3 ∧ mJ3_appendChars.1.cls ≠ "java/lang/invoke/MethodHandle" ∧ mJ3_appendChars.1.cls ≠ "java/lang/invoke/VarHandle" ∧ (parseMethodDescriptor mJ3_appendChars.1.desc).map (fun d => d.parameters.length) = some 3 := ⟨rfl, by decide +kernel, by decide +kernel, by decide +kernel⟩
def mJ3_appendChars_2 : MI := (yJ3_appendChars_2, cJ3_appendChars_2, 8, none)
theorem vm_J3_appendChars_2 : mJ3_appendChars_2.1.cls = RJ3 ∧ mJ3_appendChars_2.1.cls ≠ "java/lang/invoke/MethodHandle" ∧ mJ3_appendChars_2.1.cls ≠ "java/lang/invoke/VarHandle" ∧ (parseMethodDescriptor mJ3_appendChars_2.1.desc).map (fun d => d.parameters.length) = some 3 := ⟨rfl, by decide +kernel, by decide +kernel, by decide +kernel⟩
def mJ3_appendNull : MI := (yJ3_appendNull, cJ3_appendNull, 3, (some (.object "java/lang/AbstractStringBuilder")))
theorem vm_J3_appendNull : mJ3_appendNull.1.cls = RJ3 ∧ mJ3_appendNull.1.cls ≠ "java/lang/invoke/MethodHandle" ∧ mJ3_appendNull.1.cls ≠ "java/lang/invoke/VarHandle" ∧ (parseMethodDescriptor mJ3_appendNull.1.desc).map (fun d => d.parameters.length) = some 0 := ⟨rfl, by decide +kernel, by decide +kernel, by decide +kernel⟩
def mJ3_append_2 : MI := (yJ3_append_2, cJ3_append_2, 3, (some (.object "java/lang/AbstractStringBuilder")))
theorem vm_J3_append_2 : mJ3_append_2.1.cls = RJ3 ∧ mJ3_append_2.1.cls ≠ "java/lang/invoke/MethodHandle" ∧ mJ3_append_2.1.cls ≠ "java/lang/invoke/VarHandle" ∧ (parseMethodDescriptor mJ3_append_2.1.desc).map (fun d => d.parameters.length) = some 1 := ⟨rfl, by decide +kernel, by decide +kernel, by decide +kernel⟩
def mJ3_append_3 : MI := (yJ3_append_3, cJ3_append_3, 2, (some (.object "java/lang/AbstractStringBuilder")))
theorem vm_J3_append_3 : mJ3_append_3.1.cls = RJ3 ∧ mJ3_append_3.1.cls ≠ "java/lang/invoke/MethodHandle" ∧ mJ3_append_3.1.cls ≠ "java/lang/invoke/VarHandle" ∧ (parseMethodDescriptor mJ3_append_3.1.desc).map (fun d => d.parameters.length) = some 1 := ⟨rfl, by decide +kernel, by decide +kernel, by decide +kernel⟩
def mJ3_append_4 : MI := (yJ3_append_4, cJ3_append_4, 3, (some (.object "java/lang/AbstractStringBuilder")))
theorem vm_J3_append_4 : mJ3_append_4.1.cls = RJ3 ∧ mJ3_append_4.1.cls ≠ "java/lang/invoke/MethodHandle" ∧ mJ3_append_4.1.cls ≠ "java/lang/invoke/VarHandle" ∧ (parseMethodDescriptor mJ3_append_4.1.desc).map (fun d => d.parameters.length) = some 1 := ⟨rfl, by decide +kernel, by decide +kernel, by decide +kernel⟩
def mJ3_append_5 : MI := (yJ3_append_5, cJ3_append_5, 5, (some (.object "java/lang/AbstractStringBuilder")))
theorem vm_J3_append_5 : mJ3_append_5.1.cls = RJ3 ∧ mJ3_append_5.1.cls ≠ "java/lang/invoke/MethodHandle" ∧ mJ3_append_5.1.cls ≠ "java/lang/invoke/VarHandle" ∧ (parseMethodDescriptor mJ3_append_5.1.desc).map (fun d => d.parameters.length) = some 3 := ⟨rfl, by decide +kernel, by decide +kernel, by decide +kernel⟩
def mJ3_append_6 : MI := (yJ3_append_6, cJ3_append_6, 2, (some (.object "java/lang/AbstractStringBuilder")))
theorem vm_J3_append_6 : mJ3_append_6.1.cls = RJ3 ∧ mJ3_append_6.1.cls ≠ "java/lang/invoke/MethodHandle" ∧ mJ3_append_6.1.cls ≠ "java/lang/invoke/VarHandle" ∧ (parseMethodDescriptor mJ3_append_6.1.desc).map (fun d => d.parameters.length) = some 1 := ⟨rfl, by decide +kernel, by decide +kernel, by decide +kernel⟩
def mJ3_charAt : MI := (yJ3_charAt, cJ3_charAt, 5, (some .char))
theorem vm_J3_charAt : mJ3_charAt.1.cls = RJ3 ∧ mJ3_charAt.1.cls ≠ "java/lang/invoke/MethodHandle" ∧ mJ3_charAt.1.cls ≠ "java/lang/invoke/VarHandle" ∧ (parseMethodDescriptor mJ3_charAt.1.desc).map (fun d => d.parameters.length) = some 1 := ⟨rfl, by decide +kernel, by decide +kernel, by decide +kernel⟩
def mJ3_compareTo : MI := (yJ3_compareTo, cJ3_compareTo, 6, (some .int))
theorem vm_J3_compareTo : mJ3_compareTo.1.cls = RJ3 ∧ mJ3_compareTo.1.cls ≠ "java/lang/invoke/MethodHandle" ∧ mJ3_compareTo.1.cls ≠ "java/lang/invoke/VarHandle" ∧ (parseMethodDescriptor mJ3_compareTo.1.desc).map (fun d => d.parameters.length) = some 1 := ⟨rfl, by decide +kernel, by decide +kernel, by decide +kernel⟩
def mJ3_ensureCapacityInternal : MI := (yJ3_ensureCapacityInternal, cJ3_ensureCapacityInternal, 3, none)
theorem vm_J3_ensureCapacityInternal : mJ3_ensureCapacityInternal.1.cls = RJ3 ∧ mJ3_ensureCapacityInternal.1.cls ≠ "java/lang/invoke/MethodHandle" ∧ mJ3_ensureCapacityInternal.1.cls ≠ "java/lang/invoke/VarHandle" ∧ (parseMethodDescriptor mJ3_ensureCapacityInternal.1.desc).map (fun d => d.parameters.length) = some 1 := ⟨rfl, by decide +kernel, by decide +kernel, by decide +kernel⟩
def mJ3_getBytes : MI := (yJ3_getBytes, cJ3_getBytes, 4, none)
theorem vm_J3_getBytes : mJ3_getBytes.1.cls = RJ3 ∧ mJ3_getBytes.1.cls ≠ "java/lang/invoke/MethodHandle" ∧ mJ3_getBytes.1.cls ≠ "java/lang/invoke/VarHandle" ∧ (parseMethodDescriptor mJ3_getBytes.1.desc).map (fun d => d.parameters.length) = some 3 := ⟨rfl, by decide +kernel, by decide +kernel, by decide +kernel⟩
def mJ3_getCoder : MI := (yJ3_getCoder, cJ3_getCoder, 1, (some .byte))
theorem vm_J3_getCoder : mJ3_getCoder.1.cls = RJ3 ∧ mJ3_getCoder.1.cls ≠ "java/lang/invoke/MethodHandle" ∧ mJ3_getCoder.1.cls ≠ "java/lang/invoke/VarHandle" ∧ (parseMethodDescriptor mJ3_getCoder.1.desc).map (fun d => d.parameters.length) = some 0 := ⟨rfl, by decide +kernel, by decide +kernel, by decide +kernel⟩
def mJ3_getValue : MI := (yJ3_getValue, cJ3_getValue, 1, (some (.array .byte)))
theorem vm_J3_getValue : mJ3_getValue.1.cls = RJ3 ∧ mJ3_getValue.1.cls ≠ "java/lang/invoke/MethodHandle" ∧ mJ3_getValue.1.cls ≠ "java/lang/invoke/VarHandle" ∧ (parseMethodDescriptor mJ3_getValue.1.desc).map (fun d => d.parameters.length) = some 0 := ⟨rfl, by decide +kernel, by decide +kernel, by decide +kernel⟩
def mJ3_inflate : MI := (yJ3_inflate, cJ3_inflate, 2, none)
theorem vm_J3_inflate : mJ3_inflate.1.cls = RJ3 ∧ mJ3_inflate.1.cls ≠ "java/lang/invoke/MethodHandle" ∧ mJ3_inflate.1.cls ≠ "java/lang/invoke/VarHandle" ∧ (parseMethodDescriptor mJ3_inflate.1.desc).map (fun d => d.parameters.length) = some 0 := ⟨rfl, by decide +kernel, by decide +kernel, by decide +kernel⟩
def mJ3_inflateIfNeededFor : MI := (yJ3_inflateIfNeededFor, cJ3_inflateIfNeededFor, 2, none)
theorem vm_J3_inflateIfNeededFor : mJ3_inflateIfNeededFor.1.cls = RJ3 ∧ mJ3_inflateIfNeededFor.1.cls ≠ "java/lang/invoke/MethodHandle" ∧ mJ3_inflateIfNeededFor.1.cls ≠ "java/lang/invoke/VarHandle" ∧ (parseMethodDescriptor mJ3_inflateIfNeededFor.1.desc).map (fun d => d.parameters.length) = some 1 := ⟨rfl, by decide +kernel, by decide +kernel, by decide +kernel⟩
def mJ3_inflateIfNeededFor_2 : MI := (yJ3_inflateIfNeededFor_2, cJ3_inflateIfNeededFor_2, 2, none)
theorem vm_J3_inflateIfNeededFor_2 : mJ3_inflateIfNeededFor_2.1.cls = RJ3 ∧ mJ3_inflateIfNeededFor_2.1.cls ≠ "java/lang/invoke/MethodHandle" ∧ mJ3_inflateIfNeededFor_2.1.cls ≠ "java/lang/invoke/VarHandle" ∧ (parseMethodDescriptor mJ3_inflateIfNeededFor_2.1.desc).map (fun d => d.parameters.length) = some 1 := ⟨rfl, by decide +kernel, by decide +kernel, by decide +kernel⟩
def mJ3_init : MI := (yJ3_init, cJ3_init, 2, none)
theorem vm_J3_init : mJ3_init.1.cls = RJ3 ∧ mJ3_init.1.cls ≠ "java/lang/invoke/MethodHandle" ∧ mJ3_init.1.cls ≠ "java/lang/invoke/VarHandle" ∧ (parseMethodDescriptor mJ3_init.1.desc).map (fun d => d.parameters.length) = some 1 := ⟨rfl, by decide +kernel, by decide +kernel, by decide +kernel⟩
def mJ3_isLatin1 : MI := (yJ3_isLatin1, cJ3_isLatin1, 1, (some .boolean))
theorem vm_J3_isLatin1 : mJ3_isLatin1.1.cls = RJ3 ∧ mJ3_isLatin1.1.cls ≠ "java/lang/invoke/MethodHandle" ∧ mJ3_isLatin1.1.cls ≠ "java/lang/invoke/VarHandle" ∧ (parseMethodDescriptor mJ3_isLatin1.1.desc).map (fun d => d.parameters.length) = some 0 := ⟨rfl, by decide +kernel, by decide +kernel, by decide +kernel⟩
def mJ3_length : MI := (yJ3_length, cJ3_length, 1, (some .int))
theorem vm_J3_length : mJ3_length.1.cls = RJ3 ∧ mJ3_length.1.cls ≠ "java/lang/invoke/MethodHandle" ∧ mJ3_length.1.cls ≠ "java/lang/invoke/VarHandle" ∧ (parseMethodDescriptor mJ3_length.1.desc).map (fun d => d.parameters.length) = some 0 := ⟨rfl, by decide +kernel, by decide +kernel, by decide +kernel⟩
def mJ3_newCapacity : MI := (yJ3_newCapacity, cJ3_newCapacity, 6, (some .int))
theorem vm_J3_newCapacity : mJ3_newCapacity.1.cls = RJ3 ∧ mJ3_newCapacity.1.cls ≠ "java/lang/invoke/MethodHandle" ∧ mJ3_newCapacity.1.cls ≠ "java/lang/invoke/VarHandle" ∧ (parseMethodDescriptor mJ3_newCapacity.1.desc).map (fun d => d.parameters.length) = some 1 := ⟨rfl, by decide +kernel, by decide +kernel, by decide +kernel⟩
def mJ3_putStringAt : MI := (yJ3_putStringAt, cJ3_putStringAt, 3, none)
theorem vm_J3_putStringAt : mJ3_putStringAt.1.cls = RJ3 ∧ mJ3_putStringAt.1.cls ≠ "java/lang/invoke/MethodHandle" ∧ mJ3_putStringAt.1.cls ≠ "java/lang/invoke/VarHandle" ∧ (parseMethodDescriptor mJ3_putStringAt.1.desc).map (fun d => d.parameters.length) = some 2 := ⟨rfl, by decide +kernel, by decide +kernel, by decide +kernel⟩
def mJ3_setLength : MI := (yJ3_setLength, cJ3_setLength, 2, none)
theorem vm_J3_setLength : mJ3_setLength.1.cls = RJ3 ∧ mJ3_setLength.1.cls ≠ "java/lang/invoke/MethodHandle" ∧ mJ3_setLength.1.cls ≠ "java/lang/invoke/VarHandle" ∧ (parseMethodDescriptor mJ3_setLength.1.desc).map (fun d => d.parameters.length) = some 1 := ⟨rfl, by decide +kernel, by decide +kernel, by decide +kernel⟩
def mJ4_append : MI := (yJ4_append, cJ4_append, 2, (some (.object "java/lang/StringBuilder")))
theorem vm_J4_append : mJ4_append.1.cls = RJ4 ∧ mJ4_append.1.cls ≠ "java/lang/invoke/MethodHandle" ∧ mJ4_append.1.cls ≠ "java/lang/invoke/VarHandle" ∧ (parseMethodDescriptor mJ4_append.1.desc).map (fun d => d.parameters.length) = some 1 := ⟨rfl, by decide +kernel, by decide +kernel, by decide +kernel⟩
def mJ4_append_2 : MI := (yJ4_append_2, cJ4_append_2, 2, (some (.object "java/lang/StringBuilder")))
theorem vm_J4_append_2 : mJ4_append_2.1.cls = RJ4 ∧ mJ4_append_2.1.cls ≠ "java/lang/invoke/MethodHandle" ∧ mJ4_append_2.1.cls ≠ "java/lang/invoke/VarHandle" ∧ (parseMethodDescriptor mJ4_append_2.1.desc).map (fun d => d.parameters.length) = some 1 := ⟨rfl, by decide +kernel, by decide +kernel, by decide +kernel⟩
def mJ4_append_3 : MI := (yJ4_append_3, cJ4_append_3, 2, (some (.object "java/lang/StringBuilder")))
theorem vm_J4_append_3 : mJ4_append_3.1.cls = RJ4 ∧ mJ4_append_3.1.cls ≠ "java/lang/invoke/MethodHandle" ∧ mJ4_append_3.1.cls ≠ "java/lang/invoke/VarHandle" ∧ (parseMethodDescriptor mJ4_append_3.1.desc).map (fun d => d.parameters.length) = some 1 := ⟨rfl, by decide +kernel, by decide +kernel, by decide +kernel⟩
def mJ4_append_4 : MI := (yJ4_append_4, cJ4_append_4, 2, (some (.object "java/lang/AbstractStringBuilder")))
theorem vm_J4_append_4 : mJ4_append_4.1.cls = RJ4 ∧ mJ4_append_4.1.cls ≠ "java/lang/invoke/MethodHandle" ∧ mJ4_append_4.1.cls ≠ "java/lang/invoke/VarHandle" ∧ (parseMethodDescriptor mJ4_append_4.1.desc).map (fun d => d.parameters.length) = some 1 := ⟨rfl, by decide +kernel, by decide +kernel, by decide +kernel⟩
def mJ4_append_5 : MI := (yJ4_append_5, cJ4_append_5, 4, (some (.object "java/lang/AbstractStringBuilder")))
theorem vm_J4_append_5 : mJ4_append_5.1.cls = RJ4 ∧ mJ4_append_5.1.cls ≠ "java/lang/invoke/MethodHandle" ∧ mJ4_append_5.1.cls ≠ "java/lang/invoke/VarHandle" ∧ (parseMethodDescriptor mJ4_append_5.1.desc).map (fun d => d.parameters.length) = some 3 := ⟨rfl, by decide +kernel, by decide +kernel, by decide +kernel⟩
def mJ4_append_6 : MI := (yJ4_append_6, cJ4_append_6, 4, (some (.object "java/lang/StringBuilder")))
theorem vm_J4_append_6 : mJ4_append_6.1.cls = RJ4 ∧ mJ4_append_6.1.cls ≠ "java/lang/invoke/MethodHandle" ∧ mJ4_append_6.1.cls ≠ "java/lang/invoke/VarHandle" ∧ (parseMethodDescriptor mJ4_append_6.1.desc).map (fun d => d.parameters.length) = some 3 := ⟨rfl, by decide +kernel, by decide +kernel, by decide +kernel⟩
def mJ4_append_7 : MI := (yJ4_append_7, cJ4_append_7, 2, (some (.object "java/lang/StringBuilder")))
theorem vm_J4_append_7 : mJ4_append_7.1.cls = RJ4 ∧ mJ4_append_7.1.cls ≠ "java/lang/invoke/MethodHandle" ∧ mJ4_append_7.1.cls ≠ "java/lang/invoke/VarHandle" ∧ (parseMethodDescriptor mJ4_append_7.1.desc).map (fun d => d.parameters.length) = some 1 := ⟨rfl, by decide +kernel, by decide +kernel, by decide +kernel⟩
def mJ4_charAt : MI := (yJ4_charAt, cJ4_charAt, 2, (some .char))
theorem vm_J4_charAt : mJ4_charAt.1.cls = RJ4 ∧ mJ4_charAt.1.cls ≠ "java/lang/invoke/MethodHandle" ∧ mJ4_charAt.1.cls ≠ "java/lang/invoke/VarHandle" ∧ (parseMethodDescriptor mJ4_charAt.1.desc).map (fun d => d.parameters.length) = some 1 := ⟨rfl, by decide +kernel, by decide +kernel, by decide +kernel⟩
def mJ4_compareTo : MI := (yJ4_compareTo, cJ4_compareTo, 2, (some .int))
theorem vm_J4_compareTo : mJ4_compareTo.1.cls = RJ4 ∧ mJ4_compareTo.1.cls ≠ "java/lang/invoke/MethodHandle" ∧ mJ4_compareTo.1.cls ≠ "java/lang/invoke/VarHandle" ∧ (parseMethodDescriptor mJ4_compareTo.1.desc).map (fun d => d.parameters.length) = some 1 := ⟨rfl, by decide +kernel, by decide +kernel, by decide +kernel⟩
def mJ4_compareTo_2 : MI := (yJ4_compareTo_2, cJ4_compareTo_2, 2, (some .int))
theorem vm_J4_compareTo_2 : mJ4_compareTo_2.1.cls = RJ4 ∧ mJ4_compareTo_2.1.cls ≠ "java/lang/invoke/MethodHandle" ∧ mJ4_compareTo_2.1.cls ≠ "java/lang/invoke/VarHandle" ∧ (parseMethodDescriptor mJ4_compareTo_2.1.desc).map (fun d => d.parameters.length) = some 1 := ⟨rfl, by decide +kernel, by decide +kernel, by decide +kernel⟩
def mJ4_init : MI := (yJ4_init, cJ4_init, 1, none)
theorem vm_J4_init : mJ4_init.1.cls = RJ4 ∧ mJ4_init.1.cls ≠ "java/lang/invoke/MethodHandle" ∧ mJ4_init.1.cls ≠ "java/lang/invoke/VarHandle" ∧ (parseMethodDescriptor mJ4_init.1.desc).map (fun d => d.parameters.length) = some 0 := ⟨rfl, by decide +kernel, by decide +kernel, by decide +kernel⟩
def mJ4_length : MI := (yJ4_length, cJ4_length, 1, (some .int))
theorem vm_J4_length : mJ4_length.1.cls = RJ4 ∧ mJ4_length.1.cls ≠ "java/lang/invoke/MethodHandle" ∧ mJ4_length.1.cls ≠ "java/lang/invoke/VarHandle" ∧ (parseMethodDescriptor mJ4_length.1.desc).map (fun d => d.parameters.length) = some 0 := ⟨rfl, by decide +kernel, by decide +kernel, by decide +kernel⟩
def mJ4_setLength : MI := (yJ4_setLength, cJ4_setLength, 2, none)
theorem vm_J4_setLength : mJ4_setLength.1.cls = RJ4 ∧ mJ4_setLength.1.cls ≠ "java/lang/invoke/MethodHandle" ∧ mJ4_setLength.1.cls ≠ "java/lang/invoke/VarHandle" ∧ (parseMethodDescriptor mJ4_setLength.1.desc).map (fun d => d.parameters.length) = some 1 := ⟨rfl, by decide +kernel, by decide +kernel, by decide +kernel⟩
def mJ4_toString : MI := (yJ4_toString, cJ4_toString, 1, (some (.object "java/lang/String")))
theorem vm_J4_toString : mJ4_toString.1.cls = RJ4 ∧ mJ4_toString.1.cls ≠ "java/lang/invoke/MethodHandle" ∧ mJ4_toString.1.cls ≠ "java/lang/invoke/VarHandle" ∧ (parseMethodDescriptor mJ4_toString.1.desc).map (fun d => d.parameters.length) = some 0 := ⟨rfl, by decide +kernel, by decide +kernel, by decide +kernel⟩
def mJ5_charAt : MI := (yJ5_charAt, cJ5_charAt, 2, (some .char))
theorem vm_J5_charAt : mJ5_charAt.1.cls = RJ5 ∧ mJ5_charAt.1.cls ≠ "java/lang/invoke/MethodHandle" ∧ mJ5_charAt.1.cls ≠ "java/lang/invoke/VarHandle" ∧ (parseMethodDescriptor mJ5_charAt.1.desc).map (fun d => d.parameters.length) = some 1 := ⟨rfl, by decide +kernel, by decide +kernel, by decide +kernel⟩
def mJ5_checkBoundsBeginEnd : MI := (yJ5_checkBoundsBeginEnd, cJ5_checkBoundsBeginEnd, 3, none)
theorem vm_J5_checkBoundsBeginEnd : mJ5_checkBoundsBeginEnd.1.cls = RJ5 ∧ mJ5_checkBoundsBeginEnd.1.cls ≠ "java/lang/invoke/MethodHandle" ∧ mJ5_checkBoundsBeginEnd.1.cls ≠ "java/lang/invoke/VarHandle" ∧ (parseMethodDescriptor mJ5_checkBoundsBeginEnd.1.desc).map (fun d => d.parameters.length) = some 3 := ⟨rfl, by decide +kernel, by decide +kernel, by decide +kernel⟩
def mJ5_checkBoundsOffCount : MI := (yJ5_checkBoundsOffCount, cJ5_checkBoundsOffCount, 3, (some .int))
theorem vm_J5_checkBoundsOffCount : mJ5_checkBoundsOffCount.1.cls = RJ5 ∧ mJ5_checkBoundsOffCount.1.cls ≠ "java/lang/invoke/MethodHandle" ∧ mJ5_checkBoundsOffCount.1.cls ≠ "java/lang/invoke/VarHandle" ∧ (parseMethodDescriptor mJ5_checkBoundsOffCount.1.desc).map (fun d => d.parameters.length) = some 3 := ⟨rfl, by decide +kernel, by decide +kernel, by decide +kernel⟩
def mJ5_checkIndex : MI := (yJ5_checkIndex, cJ5_checkIndex, 2, none)
theorem vm_J5_checkIndex : mJ5_checkIndex.1.cls = RJ5 ∧ mJ5_checkIndex.1.cls ≠ "java/lang/invoke/MethodHandle" ∧ mJ5_checkIndex.1.cls ≠ "java/lang/invoke/VarHandle" ∧ (parseMethodDescriptor mJ5_checkIndex.1.desc).map (fun d => d.parameters.length) = some 2 := ⟨rfl, by decide +kernel, by decide +kernel, by decide +kernel⟩
def mJ5_checkOffset : MI := (yJ5_checkOffset, cJ5_checkOffset, 2, none)
theorem vm_J5_checkOffset : mJ5_checkOffset.1.cls = RJ5 ∧ mJ5_checkOffset.1.cls ≠ "java/lang/invoke/MethodHandle" ∧ mJ5_checkOffset.1.cls ≠ "java/lang/invoke/VarHandle" ∧ (parseMethodDescriptor mJ5_checkOffset.1.desc).map (fun d => d.parameters.length) = some 2 := ⟨rfl, by decide +kernel, by decide +kernel, by decide +kernel⟩
def mJ5_coder : MI := (yJ5_coder, cJ5_coder, 1, (some .byte))
theorem vm_J5_coder : mJ5_coder.1.cls = RJ5 ∧ mJ5_coder.1.cls ≠ "java/lang/invoke/MethodHandle" ∧ mJ5_coder.1.cls ≠ "java/lang/invoke/VarHandle" ∧ (parseMethodDescriptor mJ5_coder.1.desc).map (fun d => d.parameters.length) = some 0 := ⟨rfl, by decide +kernel, by decide +kernel, by decide +kernel⟩
def mJ5_compareTo : MI := (yJ5_compareTo, cJ5_compareTo, 2, (some .int))
theorem vm_J5_compareTo : mJ5_compareTo.1.cls = RJ5 ∧ mJ5_compareTo.1.cls ≠ "java/lang/invoke/MethodHandle" ∧ mJ5_compareTo.1.cls ≠ "java/lang/invoke/VarHandle" ∧ (parseMethodDescriptor mJ5_compareTo.1.desc).map (fun d => d.parameters.length) = some 1 := ⟨rfl, by decide +kernel, by decide +kernel, by decide +kernel⟩
def mJ5_compareTo_2 : MI := (yJ5_compareTo_2, cJ5_compareTo_2, 5, (some .int))
theorem vm_J5_compareTo_2 : mJ5_compareTo_2.1.cls = RJ5 ∧ mJ5_compareTo_2.1.cls ≠ "java/lang/invoke/MethodHandle" ∧ mJ5_compareTo_2.1.cls ≠ "java/lang/invoke/VarHandle" ∧ (parseMethodDescriptor mJ5_compareTo_2.1.desc).map (fun d => d.parameters.length) = some 1 := ⟨rfl, by decide +kernel, by decide +kernel, by decide +kernel⟩
def mJ5_equals : MI := (yJ5_equals, cJ5_equals, 3, (some .boolean))
theorem vm_J5_equals : mJ5_equals.1.cls = RJ5 ∧ mJ5_equals.1.cls ≠ "java/lang/invoke/MethodHandle" ∧ mJ5_equals.1.cls ≠ "java/lang/invoke/VarHandle" ∧ (parseMethodDescriptor mJ5_equals.1.desc).map (fun d => d.parameters.length) = some 1 := ⟨rfl, by decide +kernel, by decide +kernel, by decide +kernel⟩
def mJ5_getBytes : MI := (yJ5_getBytes, cJ5_getBytes, 4, none)
theorem vm_J5_getBytes : mJ5_getBytes.1.cls = RJ5 ∧ mJ5_getBytes.1.cls ≠ "java/lang/invoke/MethodHandle" ∧ mJ5_getBytes.1.cls ≠ "java/lang/invoke/VarHandle" ∧ (parseMethodDescriptor mJ5_getBytes.1.desc).map (fun d => d.parameters.length) = some 3 := ⟨rfl, by decide +kernel, by decide +kernel, by decide +kernel⟩
def mJ5_hashCode : MI := (yJ5_hashCode, cJ5_hashCode, 2, (some .int))
theorem vm_J5_hashCode : mJ5_hashCode.1.cls = RJ5 ∧ mJ5_hashCode.1.cls ≠ "java/lang/invoke/MethodHandle" ∧ mJ5_hashCode.1.cls ≠ "java/lang/invoke/VarHandle" ∧ (parseMethodDescriptor mJ5_hashCode.1.desc).map (fun d => d.parameters.length) = some 0 := ⟨rfl, by decide +kernel, by decide +kernel, by decide +kernel⟩
def mJ5_init : MI := (yJ5_init, cJ5_init, 2, none)
theorem vm_J5_init : mJ5_init.1.cls = RJ5 ∧ mJ5_init.1.cls ≠ "java/lang/invoke/MethodHandle" ∧ mJ5_init.1.cls ≠ "java/lang/invoke/VarHandle" ∧ (parseMethodDescriptor mJ5_init.1.desc).map (fun d => d.parameters.length) = some 1 := ⟨rfl, by decide +kernel, by decide +kernel, by decide +kernel⟩
def mJ5_init_2 : MI := (yJ5_init_2, cJ5_init_2, 5, none)
theorem vm_J5_init_2 : mJ5_init_2.1.cls = RJ5 ∧ mJ5_init_2.1.cls ≠ "java/lang/invoke/MethodHandle" ∧ mJ5_init_2.1.cls ≠ "java/lang/invoke/VarHandle" ∧ (parseMethodDescriptor mJ5_init_2.1.desc).map (fun d => d.parameters.length) = some 2 := ⟨rfl, by decide +kernel, by decide +kernel, by decide +kernel⟩
def mJ5_isLatin1 : MI := (yJ5_isLatin1, cJ5_isLatin1, 1, (some .boolean))
theorem vm_J5_isLatin1 : mJ5_isLatin1.1.cls = RJ5 ∧ mJ5_isLatin1.1.cls ≠ "java/lang/invoke/MethodHandle" ∧ mJ5_isLatin1.1.cls ≠ "java/lang/invoke/VarHandle" ∧ (parseMethodDescriptor mJ5_isLatin1.1.desc).map (fun d => d.parameters.length) = some 0 := ⟨rfl, by decide +kernel, by decide +kernel, by decide +kernel⟩
def mJ5_length : MI := (yJ5_length, cJ5_length, 1, (some .int))
theorem vm_J5_length : mJ5_length.1.cls = RJ5 ∧ mJ5_length.1.cls ≠ "java/lang/invoke/MethodHandle" ∧ mJ5_length.1.cls ≠ "java/lang/invoke/VarHandle" ∧ (parseMethodDescriptor mJ5_length.1.desc).map (fun d => d.parameters.length) = some 0 := ⟨rfl, by decide +kernel, by decide +kernel, by decide +kernel⟩
def mJ5_value : MI := (yJ5_value, cJ5_value, 1, (some (.array .byte)))
theorem vm_J5_value : mJ5_value.1.cls = RJ5 ∧ mJ5_value.1.cls ≠ "java/lang/invoke/MethodHandle" ∧ mJ5_value.1.cls ≠ "java/lang/invoke/VarHandle" ∧ (parseMethodDescriptor mJ5_value.1.desc).map (fun d => d.parameters.length) = some 0 := ⟨rfl, by decide +kernel, by decide +kernel, by decide +kernel⟩
def mJ6_charAt : MI := (yJ6_charAt, cJ6_charAt, 2, (some .char))
theorem vm_J6_charAt : mJ6_charAt.1.cls = RJ6 ∧ mJ6_charAt.1.cls ≠ "java/lang/invoke/MethodHandle" ∧ mJ6_charAt.1.cls ≠ "java/lang/invoke/VarHandle" ∧ (parseMethodDescriptor mJ6_charAt.1.desc).map (fun d => d.parameters.length) = some 2 := ⟨rfl, by decide +kernel, by decide +kernel, by decide +kernel⟩
def mJ6_checkBoundsBeginEnd : MI := (yJ6_checkBoundsBeginEnd, cJ6_checkBoundsBeginEnd, 3, none)
theorem vm_J6_checkBoundsBeginEnd : mJ6_checkBoundsBeginEnd.1.cls = RJ6 ∧ mJ6_checkBoundsBeginEnd.1.cls ≠ "java/lang/invoke/MethodHandle" ∧ mJ6_checkBoundsBeginEnd.1.cls ≠ "java/lang/invoke/VarHandle" ∧ (parseMethodDescriptor mJ6_checkBoundsBeginEnd.1.desc).map (fun d => d.parameters.length) = some 3 := ⟨rfl, by decide +kernel, by decide +kernel, by decide +kernel⟩
def mJ6_checkBoundsOffCount : MI := (yJ6_checkBoundsOffCount, cJ6_checkBoundsOffCount, 3, none)
theorem vm_J6_checkBoundsOffCount : mJ6_checkBoundsOffCount.1.cls = RJ6 ∧ mJ6_checkBoundsOffCount.1.cls ≠ "java/lang/invoke/MethodHandle" ∧ mJ6_checkBoundsOffCount.1.cls ≠ "java/lang/invoke/VarHandle" ∧ (parseMethodDescriptor mJ6_checkBoundsOffCount.1.desc).map (fun d => d.parameters.length) = some 3 := ⟨rfl, by decide +kernel, by decide +kernel, by decide +kernel⟩
def mJ6_checkIndex : MI := (yJ6_checkIndex, cJ6_checkIndex, 2, none)
theorem vm_J6_checkIndex : mJ6_checkIndex.1.cls = RJ6 ∧ mJ6_checkIndex.1.cls ≠ "java/lang/invoke/MethodHandle" ∧ mJ6_checkIndex.1.cls ≠ "java/lang/invoke/VarHandle" ∧ (parseMethodDescriptor mJ6_checkIndex.1.desc).map (fun d => d.parameters.length) = some 2 := ⟨rfl, by decide +kernel, by decide +kernel, by decide +kernel⟩
def mJ6_checkOffset : MI := (yJ6_checkOffset, cJ6_checkOffset, 2, none)
theorem vm_J6_checkOffset : mJ6_checkOffset.1.cls = RJ6 ∧ mJ6_checkOffset.1.cls ≠ "java/lang/invoke/MethodHandle" ∧ mJ6_checkOffset.1.cls ≠ "java/lang/invoke/VarHandle" ∧ (parseMethodDescriptor mJ6_checkOffset.1.desc).map (fun d => d.parameters.length) = some 2 := ⟨rfl, by decide +kernel, by decide +kernel, by decide +kernel⟩
def mJ6_coderFromArrayLen : MI := (yJ6_coderFromArrayLen, cJ6_coderFromArrayLen, 2, (some .byte))
theorem vm_J6_coderFromArrayLen : mJ6_coderFromArrayLen.1.cls = RJ6 ∧ mJ6_coderFromArrayLen.1.cls ≠ "java/lang/invoke/MethodHandle" ∧ mJ6_coderFromArrayLen.1.cls ≠ "java/lang/invoke/VarHandle" ∧ (parseMethodDescriptor mJ6_coderFromArrayLen.1.desc).map (fun d => d.parameters.length) = some 2 := ⟨rfl, by decide +kernel, by decide +kernel, by decide +kernel⟩
def mJ6_compareTo : MI := (yJ6_compareTo, cJ6_compareTo, 4, (some .int))
theorem vm_J6_compareTo : mJ6_compareTo.1.cls = RJ6 ∧ mJ6_compareTo.1.cls ≠ "java/lang/invoke/MethodHandle" ∧ mJ6_compareTo.1.cls ≠ "java/lang/invoke/VarHandle" ∧ (parseMethodDescriptor mJ6_compareTo.1.desc).map (fun d => d.parameters.length) = some 2 := ⟨rfl, by decide +kernel, by decide +kernel, by decide +kernel⟩
def mJ6_compareToLatin1 : MI := (yJ6_compareToLatin1, cJ6_compareToLatin1, 2, (some .int))
theorem vm_J6_compareToLatin1 : mJ6_compareToLatin1.1.cls = RJ6 ∧ mJ6_compareToLatin1.1.cls ≠ "java/lang/invoke/MethodHandle" ∧ mJ6_compareToLatin1.1.cls ≠ "java/lang/invoke/VarHandle" ∧ (parseMethodDescriptor mJ6_compareToLatin1.1.desc).map (fun d => d.parameters.length) = some 2 := ⟨rfl, by decide +kernel, by decide +kernel, by decide +kernel⟩
def mJ6_compareToLatin1_2 : MI := (yJ6_compareToLatin1_2, cJ6_compareToLatin1_2, 4, (some .int))
theorem vm_J6_compareToLatin1_2 : mJ6_compareToLatin1_2.1.cls = RJ6 ∧ mJ6_compareToLatin1_2.1.cls ≠ "java/lang/invoke/MethodHandle" ∧ mJ6_compareToLatin1_2.1.cls ≠ "java/lang/invoke/VarHandle" ∧ (parseMethodDescriptor mJ6_compareToLatin1_2.1.desc).map (fun d => d.parameters.length) = some 4 := ⟨rfl, by decide +kernel, by decide +kernel, by decide +kernel⟩
def mJ6_compareTo_2 : MI := (yJ6_compareTo_2, cJ6_compareTo_2, 4, (some .int))
theorem vm_J6_compareTo_2 : mJ6_compareTo_2.1.cls = RJ6 ∧ mJ6_compareTo_2.1.cls ≠ "java/lang/invoke/MethodHandle" ∧ mJ6_compareTo_2.1.cls ≠ "java/lang/invoke/VarHandle" ∧ (parseMethodDescriptor mJ6_compareTo_2.1.desc).map (fun d => d.parameters.length) = some 4 := ⟨rfl, by decide +kernel, by decide +kernel, by decide +kernel⟩
def mJ6_compareValues : MI := (yJ6_compareValues, cJ6_compareValues, 8, (some .int))
theorem vm_J6_compareValues : mJ6_compareValues.1.cls = RJ6 ∧ mJ6_compareValues.1.cls ≠ "java/lang/invoke/MethodHandle" ∧ mJ6_compareValues.1.cls ≠ "java/lang/invoke/VarHandle" ∧ (parseMethodDescriptor mJ6_compareValues.1.desc).map (fun d => d.parameters.length) = some 4 := ⟨rfl, by decide +kernel, by decide +kernel, by decide +kernel⟩
def mJ6_compress : MI := (yJ6_compress, cJ6_compress, 6, (some (.array .byte)))
theorem vm_J6_compress : mJ6_compress.1.cls = RJ6 ∧ mJ6_compress.1.cls ≠ "java/lang/invoke/MethodHandle" ∧ mJ6_compress.1.cls ≠ "java/lang/invoke/VarHandle" ∧ (parseMethodDescriptor mJ6_compress.1.desc).map (fun d => d.parameters.length) = some 3 := ⟨rfl, by decide +kernel, by decide +kernel, by decide +kernel⟩
def mJ6_compress_2 : MI := (yJ6_compress_2, cJ6_compress_2, 7, (some .int))
theorem vm_J6_compress_2 : mJ6_compress_2.1.cls = RJ6 ∧ mJ6_compress_2.1.cls ≠ "java/lang/invoke/MethodHandle" ∧ mJ6_compress_2.1.cls ≠ "java/lang/invoke/VarHandle" ∧ (parseMethodDescriptor mJ6_compress_2.1.desc).map (fun d => d.parameters.length) = some 5 := ⟨rfl, by decide +kernel, by decide +kernel, by decide +kernel⟩
def mJ6_fillNull : MI := (yJ6_fillNull, cJ6_fillNull, 3, none)
theorem vm_J6_fillNull : mJ6_fillNull.1.cls = RJ6 ∧ mJ6_fillNull.1.cls ≠ "java/lang/invoke/MethodHandle" ∧ mJ6_fillNull.1.cls ≠ "java/lang/invoke/VarHandle" ∧ (parseMethodDescriptor mJ6_fillNull.1.desc).map (fun d => d.parameters.length) = some 3 := ⟨rfl, by decide +kernel, by decide +kernel, by decide +kernel⟩
def mJ6_getChar : MI := (yJ6_getChar, cJ6_getChar, 2, (some .char))
theorem vm_J6_getChar : mJ6_getChar.1.cls = RJ6 ∧ mJ6_getChar.1.cls ≠ "java/lang/invoke/MethodHandle" ∧ mJ6_getChar.1.cls ≠ "java/lang/invoke/VarHandle" ∧ (parseMethodDescriptor mJ6_getChar.1.desc).map (fun d => d.parameters.length) = some 2 := ⟨rfl, by decide +kernel, by decide +kernel, by decide +kernel⟩
def mJ6_getChars : MI := (yJ6_getChars, cJ6_getChars, 5, (some .int))
theorem vm_J6_getChars : mJ6_getChars.1.cls = RJ6 ∧ mJ6_getChars.1.cls ≠ "java/lang/invoke/MethodHandle" ∧ mJ6_getChars.1.cls ≠ "java/lang/invoke/VarHandle" ∧ (parseMethodDescriptor mJ6_getChars.1.desc).map (fun d => d.parameters.length) = some 4 := ⟨rfl, by decide +kernel, by decide +kernel, by decide +kernel⟩
def mJ6_getChars_2 : MI := (yJ6_getChars_2, cJ6_getChars_2, 7, (some .int))
theorem vm_J6_getChars_2 : mJ6_getChars_2.1.cls = RJ6 ∧ mJ6_getChars_2.1.cls ≠ "java/lang/invoke/MethodHandle" ∧ mJ6_getChars_2.1.cls ≠ "java/lang/invoke/VarHandle" ∧ (parseMethodDescriptor mJ6_getChars_2.1.desc).map (fun d => d.parameters.length) = some 3 := ⟨rfl, by decide +kernel, by decide +kernel, by decide +kernel⟩
def mJ6_hashCode : MI := (yJ6_hashCode, cJ6_hashCode, 1, (some .int))
theorem vm_J6_hashCode : mJ6_hashCode.1.cls = RJ6 ∧ mJ6_hashCode.1.cls ≠ "java/lang/invoke/MethodHandle" ∧ mJ6_hashCode.1.cls ≠ "java/lang/invoke/VarHandle" ∧ (parseMethodDescriptor mJ6_hashCode.1.desc).map (fun d => d.parameters.length) = some 1 := ⟨rfl, by decide +kernel, by decide +kernel, by decide +kernel⟩
def mJ6_inflate : MI := (yJ6_inflate, cJ6_inflate, 6, none)
theorem vm_J6_inflate : mJ6_inflate.1.cls = RJ6 ∧ mJ6_inflate.1.cls ≠ "java/lang/invoke/MethodHandle" ∧ mJ6_inflate.1.cls ≠ "java/lang/invoke/VarHandle" ∧ (parseMethodDescriptor mJ6_inflate.1.desc).map (fun d => d.parameters.length) = some 5 := ⟨rfl, by decide +kernel, by decide +kernel, by decide +kernel⟩
def mJ6_length : MI := (yJ6_length, cJ6_length, 1, (some .int))
theorem vm_J6_length : mJ6_length.1.cls = RJ6 ∧ mJ6_length.1.cls ≠ "java/lang/invoke/MethodHandle" ∧ mJ6_length.1.cls ≠ "java/lang/invoke/VarHandle" ∧ (parseMethodDescriptor mJ6_length.1.desc).map (fun d => d.parameters.length) = some 1 := ⟨rfl, by decide +kernel, by decide +kernel, by decide +kernel⟩
def mJ6_newBytesFor : MI := (yJ6_newBytesFor, cJ6_newBytesFor, 1, (some (.array .byte)))
theorem vm_J6_newBytesFor : mJ6_newBytesFor.1.cls = RJ6 ∧ mJ6_newBytesFor.1.cls ≠ "java/lang/invoke/MethodHandle" ∧ mJ6_newBytesFor.1.cls ≠ "java/lang/invoke/VarHandle" ∧ (parseMethodDescriptor mJ6_newBytesFor.1.desc).map (fun d => d.parameters.length) = some 1 := ⟨rfl, by decide +kernel, by decide +kernel, by decide +kernel⟩
def mJ6_newBytesLength : MI := (yJ6_newBytesLength, cJ6_newBytesLength, 1, (some .int))
theorem vm_J6_newBytesLength : mJ6_newBytesLength.1.cls = RJ6 ∧ mJ6_newBytesLength.1.cls ≠ "java/lang/invoke/MethodHandle" ∧ mJ6_newBytesLength.1.cls ≠ "java/lang/invoke/VarHandle" ∧ (parseMethodDescriptor mJ6_newBytesLength.1.desc).map (fun d => d.parameters.length) = some 1 := ⟨rfl, by decide +kernel, by decide +kernel, by decide +kernel⟩
def mJ6_putChar : MI := (yJ6_putChar, cJ6_putChar, 3, none)
theorem vm_J6_putChar : mJ6_putChar.1.cls = RJ6 ∧ mJ6_putChar.1.cls ≠ "java/lang/invoke/MethodHandle" ∧ mJ6_putChar.1.cls ≠ "java/lang/invoke/VarHandle" ∧ (parseMethodDescriptor mJ6_putChar.1.desc).map (fun d => d.parameters.length) = some 3 := ⟨rfl, by decide +kernel, by decide +kernel, by decide +kernel⟩
def mJ6_putCharSB : MI := (yJ6_putCharSB, cJ6_putCharSB, 3, none)
theorem vm_J6_putCharSB : mJ6_putCharSB.1.cls = RJ6 ∧ mJ6_putCharSB.1.cls ≠ "java/lang/invoke/MethodHandle" ∧ mJ6_putCharSB.1.cls ≠ "java/lang/invoke/VarHandle" ∧ (parseMethodDescriptor mJ6_putCharSB.1.desc).map (fun d => d.parameters.length) = some 3 := ⟨rfl, by decide +kernel, by decide +kernel, by decide +kernel⟩
def mJ6_putCharsAt : MI := (yJ6_putCharsAt, cJ6_putCharsAt, 7, (some .int))
theorem vm_J6_putCharsAt : mJ6_putCharsAt.1.cls = RJ6 ∧ mJ6_putCharsAt.1.cls ≠ "java/lang/invoke/MethodHandle" ∧ mJ6_putCharsAt.1.cls ≠ "java/lang/invoke/VarHandle" ∧ (parseMethodDescriptor mJ6_putCharsAt.1.desc).map (fun d => d.parameters.length) = some 6 := ⟨rfl, by decide +kernel, by decide +kernel, by decide +kernel⟩
def mJ6_putCharsSB : MI := (yJ6_putCharsSB, cJ6_putCharsSB, 6, none)
theorem vm_J6_putCharsSB : mJ6_putCharsSB.1.cls = RJ6 ∧ mJ6_putCharsSB.1.cls ≠ "java/lang/invoke/MethodHandle" ∧ mJ6_putCharsSB.1.cls ≠ "java/lang/invoke/VarHandle" ∧ (parseMethodDescriptor mJ6_putCharsSB.1.desc).map (fun d => d.parameters.length) = some 5 := ⟨rfl, by decide +kernel, by decide +kernel, by decide +kernel⟩
def mJ7_max : MI := (yJ7_max, cJ7_max, 2, (some .int))
theorem vm_J7_max : mJ7_max.1.cls = RJ7 ∧ mJ7_max.1.cls ≠ "java/lang/invoke/MethodHandle" ∧ mJ7_max.1.cls ≠ "java/lang/invoke/VarHandle" ∧ (parseMethodDescriptor mJ7_max.1.desc).map (fun d => d.parameters.length) = some 2 := ⟨rfl, by decide +kernel, by decide +kernel, by decide +kernel⟩
def mJ7_min : MI := (yJ7_min, cJ7_min, 2, (some .int))
theorem vm_J7_min : mJ7_min.1.cls = RJ7 ∧ mJ7_min.1.cls ≠ "java/lang/invoke/MethodHandle" ∧ mJ7_min.1.cls ≠ "java/lang/invoke/VarHandle" ∧ (parseMethodDescriptor mJ7_min.1.desc).map (fun d => d.parameters.length) = some 2 := ⟨rfl, by decide +kernel, by decide +kernel, by decide +kernel⟩
def mJ8_init : MI := (yJ8_init, cJ8_init, 1, none)
theorem vm_J8_init : mJ8_init.1.cls = RJ8 ∧ mJ8_init.1.cls ≠ "java/lang/invoke/MethodHandle" ∧ mJ8_init.1.cls ≠ "java/lang/invoke/VarHandle" ∧ (parseMethodDescriptor mJ8_init.1.desc).map (fun d => d.parameters.length) = some 0 := ⟨rfl, by decide +kernel, by decide +kernel, by decide +kernel⟩
def mJ9_add : MI := (yJ9_add, cJ9_add, 2, (some .boolean))
theorem vm_J9_add : mJ9_add.1.cls = RJ9 ∧ mJ9_add.1.cls ≠ "java/lang/invoke/MethodHandle" ∧ mJ9_add.1.cls ≠ "java/lang/invoke/VarHandle" ∧ (parseMethodDescriptor mJ9_add.1.desc).map (fun d => d.parameters.length) = some 1 := ⟨rfl, by decide +kernel, by decide +kernel, by decide +kernel⟩
def mJ9_contains : MI := (yJ9_contains, cJ9_contains, 2, (some .boolean))
theorem vm_J9_contains : mJ9_contains.1.cls = RJ9 ∧ mJ9_contains.1.cls ≠ "java/lang/invoke/MethodHandle" ∧ mJ9_contains.1.cls ≠ "java/lang/invoke/VarHandle" ∧ (parseMethodDescriptor mJ9_contains.1.desc).map (fun d => d.parameters.length) = some 1 := ⟨rfl, by decide +kernel, by decide +kernel, by decide +kernel⟩
def mJ9_init : MI := (yJ9_init, cJ9_init, 1, none)
theorem vm_J9_init : mJ9_init.1.cls = RJ9 ∧ mJ9_init.1.cls ≠ "java/lang/invoke/MethodHandle" ∧ mJ9_init.1.cls ≠ "java/lang/invoke/VarHandle" ∧ (parseMethodDescriptor mJ9_init.1.desc).map (fun d => d.parameters.length) = some 0 := ⟨rfl, by decide +kernel, by decide +kernel, by decide +kernel⟩
def mJ10_init : MI := (yJ10_init, cJ10_init, 1, none)
theorem vm_J10_init : mJ10_init.1.cls = RJ10 ∧ mJ10_init.1.cls ≠ "java/lang/invoke/MethodHandle" ∧ mJ10_init.1.cls ≠ "java/lang/invoke/VarHandle" ∧ (parseMethodDescriptor mJ10_init.1.desc).map (fun d => d.parameters.length) = some 0 := ⟨rfl, by decide +kernel, by decide +kernel, by decide +kernel⟩
def mJ11_afterNodeAccess : MI := (yJ11_afterNodeAccess, cJ11_afterNodeAccess, 2, none)
theorem vm_J11_afterNodeAccess : mJ11_afterNodeAccess.1.cls = RJ11 ∧ mJ11_afterNodeAccess.1.cls ≠ "java/lang/invoke/MethodHandle" ∧ mJ11_afterNodeAccess.1.cls ≠ "java/lang/invoke/VarHandle" ∧ (parseMethodDescriptor mJ11_afterNodeAccess.1.desc).map (fun d => d.parameters.length) = some 1 := ⟨rfl, by decide +kernel, by decide +kernel, by decide +kernel⟩
def mJ11_afterNodeInsertion : MI := (yJ11_afterNodeInsertion, cJ11_afterNodeInsertion, 2, none)
theorem vm_J11_afterNodeInsertion : mJ11_afterNodeInsertion.1.cls = RJ11 ∧ mJ11_afterNodeInsertion.1.cls ≠ "java/lang/invoke/MethodHandle" ∧ mJ11_afterNodeInsertion.1.cls ≠ "java/lang/invoke/VarHandle" ∧ (parseMethodDescriptor mJ11_afterNodeInsertion.1.desc).map (fun d => d.parameters.length) = some 1 := ⟨rfl, by decide +kernel, by decide +kernel, by decide +kernel⟩
def mJ11_comparableClassFor : MI := (yJ11_comparableClassFor, cJ11_comparableClassFor, 9, (some (.object "java/lang/Class")))
theorem vm_J11_comparableClassFor : mJ11_comparableClassFor.1.cls = RJ11 ∧ mJ11_comparableClassFor.1.cls ≠ "java/lang/invoke/MethodHandle" ∧ mJ11_comparableClassFor.1.cls ≠ "java/lang/invoke/VarHandle" ∧ (parseMethodDescriptor mJ11_comparableClassFor.1.desc).map (fun d => d.parameters.length) = some 1 := ⟨rfl, by decide +kernel, by decide +kernel, by decide +kernel⟩
def mJ11_compareComparables : MI := (yJ11_compareComparables, cJ11_compareComparables, 3, (some .int))
theorem vm_J11_compareComparables : mJ11_compareComparables.1.cls = RJ11 ∧ mJ11_compareComparables.1.cls ≠ "java/lang/invoke/MethodHandle" ∧ mJ11_compareComparables.1.cls ≠ "java/lang/invoke/VarHandle" ∧ (parseMethodDescriptor mJ11_compareComparables.1.desc).map (fun d => d.parameters.length) = some 3 := ⟨rfl, by decide +kernel, by decide +kernel, by decide +kernel⟩
def mJ11_containsKey : MI := (yJ11_containsKey, cJ11_containsKey, 2, (some .boolean))
theorem vm_J11_containsKey : mJ11_containsKey.1.cls = RJ11 ∧ mJ11_containsKey.1.cls ≠ "java/lang/invoke/MethodHandle" ∧ mJ11_containsKey.1.cls ≠ "java/lang/invoke/VarHandle" ∧ (parseMethodDescriptor mJ11_containsKey.1.desc).map (fun d => d.parameters.length) = some 1 := ⟨rfl, by decide +kernel, by decide +kernel, by decide +kernel⟩
def mJ11_getNode : MI := (yJ11_getNode, cJ11_getNode, 8, (some (.object "java/util/HashMap$Node")))
theorem vm_J11_getNode : mJ11_getNode.1.cls = RJ11 ∧ mJ11_getNode.1.cls ≠ "java/lang/invoke/MethodHandle" ∧ mJ11_getNode.1.cls ≠ "java/lang/invoke/VarHandle" ∧ (parseMethodDescriptor mJ11_getNode.1.desc).map (fun d => d.parameters.length) = some 1 := ⟨rfl, by decide +kernel, by decide +kernel, by decide +kernel⟩
def mJ11_hash : MI := (yJ11_hash, cJ11_hash, 2, (some .int))
theorem vm_J11_hash : mJ11_hash.1.cls = RJ11 ∧ mJ11_hash.1.cls ≠ "java/lang/invoke/MethodHandle" ∧ mJ11_hash.1.cls ≠ "java/lang/invoke/VarHandle" ∧ (parseMethodDescriptor mJ11_hash.1.desc).map (fun d => d.parameters.length) = some 1 := ⟨rfl, by decide +kernel, by decide +kernel, by decide +kernel⟩
def mJ11_init : MI := (yJ11_init, cJ11_init, 1, none)
theorem vm_J11_init : mJ11_init.1.cls = RJ11 ∧ mJ11_init.1.cls ≠ "java/lang/invoke/MethodHandle" ∧ mJ11_init.1.cls ≠ "java/lang/invoke/VarHandle" ∧ (parseMethodDescriptor mJ11_init.1.desc).map (fun d => d.parameters.length) = some 0 := ⟨rfl, by decide +kernel, by decide +kernel, by decide +kernel⟩
def mJ11_newNode : MI := (yJ11_newNode, cJ11_newNode, 5, (some (.object "java/util/HashMap$Node")))
theorem vm_J11_newNode : mJ11_newNode.1.cls = RJ11 ∧ mJ11_newNode.1.cls ≠ "java/lang/invoke/MethodHandle" ∧ mJ11_newNode.1.cls ≠ "java/lang/invoke/VarHandle" ∧ (parseMethodDescriptor mJ11_newNode.1.desc).map (fun d => d.parameters.length) = some 4 := ⟨rfl, by decide +kernel, by decide +kernel, by decide +kernel⟩
def mJ11_newTreeNode : MI := (yJ11_newTreeNode, cJ11_newTreeNode, 5, (some (.object "java/util/HashMap$TreeNode")))
theorem vm_J11_newTreeNode : mJ11_newTreeNode.1.cls = RJ11 ∧ mJ11_newTreeNode.1.cls ≠ "java/lang/invoke/MethodHandle" ∧ mJ11_newTreeNode.1.cls ≠ "java/lang/invoke/VarHandle" ∧ (parseMethodDescriptor mJ11_newTreeNode.1.desc).map (fun d => d.parameters.length) = some 4 := ⟨rfl, by decide +kernel, by decide +kernel, by decide +kernel⟩
def mJ11_put : MI := (yJ11_put, cJ11_put, 3, (some (.object "java/lang/Object")))
theorem vm_J11_put : mJ11_put.1.cls = RJ11 ∧ mJ11_put.1.cls ≠ "java/lang/invoke/MethodHandle" ∧ mJ11_put.1.cls ≠ "java/lang/invoke/VarHandle" ∧ (parseMethodDescriptor mJ11_put.1.desc).map (fun d => d.parameters.length) = some 2 := ⟨rfl, by decide +kernel, by decide +kernel, by decide +kernel⟩
def mJ11_putVal : MI := (yJ11_putVal, cJ11_putVal, 13, (some (.object "java/lang/Object")))
theorem vm_J11_putVal : mJ11_putVal.1.cls = RJ11 ∧ mJ11_putVal.1.cls ≠ "java/lang/invoke/MethodHandle" ∧ mJ11_putVal.1.cls ≠ "java/lang/invoke/VarHandle" ∧ (parseMethodDescriptor mJ11_putVal.1.desc).map (fun d => d.parameters.length) = some 5 := ⟨rfl, by decide +kernel, by decide +kernel, by decide +kernel⟩
def mJ11_replacementNode : MI := (yJ11_replacementNode, cJ11_replacementNode, 3, (some (.object "java/util/HashMap$Node")))
theorem vm_J11_replacementNode : mJ11_replacementNode.1.cls = RJ11 ∧ mJ11_replacementNode.1.cls ≠ "java/lang/invoke/MethodHandle" ∧ mJ11_replacementNode.1.cls ≠ "java/lang/invoke/VarHandle" ∧ (parseMethodDescriptor mJ11_replacementNode.1.desc).map (fun d => d.parameters.length) = some 2 := ⟨rfl, by decide +kernel, by decide +kernel, by decide +kernel⟩
def mJ11_replacementTreeNode : MI := (yJ11_replacementTreeNode, cJ11_replacementTreeNode, 3, (some (.object "java/util/HashMap$TreeNode")))
theorem vm_J11_replacementTreeNode : mJ11_replacementTreeNode.1.cls = RJ11 ∧ mJ11_replacementTreeNode.1.cls ≠ "java/lang/invoke/MethodHandle" ∧ mJ11_replacementTreeNode.1.cls ≠ "java/lang/invoke/VarHandle" ∧ (parseMethodDescriptor mJ11_replacementTreeNode.1.desc).map (fun d => d.parameters.length) = some 2 := ⟨rfl, by decide +kernel, by decide +kernel, by decide +kernel⟩
def mJ11_resize : MI := (yJ11_resize, cJ11_resize, 14, (some (.array (.object "java/util/HashMap$Node"))))
theorem vm_J11_resize : mJ11_resize.1.cls = RJ11 ∧ mJ11_resize.1.cls ≠ "java/lang/invoke/MethodHandle" ∧ mJ11_resize.1.cls ≠ "java/lang/invoke/VarHandle" ∧ (parseMethodDescriptor mJ11_resize.1.desc).map (fun d => d.parameters.length) = some 0 := ⟨rfl, by decide +kernel, by decide +kernel, by decide +kernel⟩
def mJ11_treeifyBin : MI := (yJ11_treeifyBin, cJ11_treeifyBin, 9, none)
theorem vm_J11_treeifyBin : mJ11_treeifyBin.1.cls = RJ11 ∧ mJ11_treeifyBin.1.cls ≠ "java/lang/invoke/MethodHandle" ∧ mJ11_treeifyBin.1.cls ≠ "java/lang/invoke/VarHandle" ∧ (parseMethodDescriptor mJ11_treeifyBin.1.desc).map (fun d => d.parameters.length) = some 2 := ⟨rfl, by decide +kernel, by decide +kernel, by decide +kernel⟩
def mJ12_checkIndex : MI := (yJ12_checkIndex, cJ12_checkIndex, 2, (some .int))
theorem vm_J12_checkIndex : mJ12_checkIndex.1.cls = RJ12 ∧ mJ12_checkIndex.1.cls ≠ "java/lang/invoke/MethodHandle" ∧ mJ12_checkIndex.1.cls ≠ "java/lang/invoke/VarHandle" ∧ (parseMethodDescriptor mJ12_checkIndex.1.desc).map (fun d => d.parameters.length) = some 2 := ⟨rfl, by decide +kernel, by decide +kernel, by decide +kernel⟩
def mJ13_checkFromIndexSize : MI := (yJ13_checkFromIndexSize, cJ13_checkFromIndexSize, 4, (some .int))
theorem vm_J13_checkFromIndexSize : mJ13_checkFromIndexSize.1.cls = RJ13 ∧ mJ13_checkFromIndexSize.1.cls ≠ "java/lang/invoke/MethodHandle" ∧ mJ13_checkFromIndexSize.1.cls ≠ "java/lang/invoke/VarHandle" ∧ (parseMethodDescriptor mJ13_checkFromIndexSize.1.desc).map (fun d => d.parameters.length) = some 4 := ⟨rfl, by decide +kernel, by decide +kernel, by decide +kernel⟩
def mJ13_checkFromToIndex : MI := (yJ13_checkFromToIndex, cJ13_checkFromToIndex, 4, (some .int))
theorem vm_J13_checkFromToIndex : mJ13_checkFromToIndex.1.cls = RJ13 ∧ mJ13_checkFromToIndex.1.cls ≠ "java/lang/invoke/MethodHandle" ∧ mJ13_checkFromToIndex.1.cls ≠ "java/lang/invoke/VarHandle" ∧ (parseMethodDescriptor mJ13_checkFromToIndex.1.desc).map (fun d => d.parameters.length) = some 4 := ⟨rfl, by decide +kernel, by decide +kernel, by decide +kernel⟩
def mJ13_checkIndex : MI := (yJ13_checkIndex, cJ13_checkIndex, 3, (some .int))
theorem vm_J13_checkIndex : mJ13_checkIndex.1.cls = RJ13 ∧ mJ13_checkIndex.1.cls ≠ "java/lang/invoke/MethodHandle" ∧ mJ13_checkIndex.1.cls ≠ "java/lang/invoke/VarHandle" ∧ (parseMethodDescriptor mJ13_checkIndex.1.desc).map (fun d => d.parameters.length) = some 3 := ⟨rfl, by decide +kernel, by decide +kernel, by decide +kernel⟩
def mJ14_canEncode : MI := (yJ14_canEncode, cJ14_canEncode, 1, (some .boolean))
theorem vm_J14_canEncode : mJ14_canEncode.1.cls = RJ14 ∧ mJ14_canEncode.1.cls ≠ "java/lang/invoke/MethodHandle" ∧ mJ14_canEncode.1.cls ≠ "java/lang/invoke/VarHandle" ∧ (parseMethodDescriptor mJ14_canEncode.1.desc).map (fun d => d.parameters.length) = some 1 := ⟨rfl, by decide +kernel, by decide +kernel, by decide +kernel⟩
def mJ14_charAt : MI := (yJ14_charAt, cJ14_charAt, 2, (some .char))
theorem vm_J14_charAt : mJ14_charAt.1.cls = RJ14 ∧ mJ14_charAt.1.cls ≠ "java/lang/invoke/MethodHandle" ∧ mJ14_charAt.1.cls ≠ "java/lang/invoke/VarHandle" ∧ (parseMethodDescriptor mJ14_charAt.1.desc).map (fun d => d.parameters.length) = some 2 := ⟨rfl, by decide +kernel, by decide +kernel, by decide +kernel⟩
def mJ14_compareTo : MI := (yJ14_compareTo, cJ14_compareTo, 4, (some .int))
theorem vm_J14_compareTo : mJ14_compareTo.1.cls = RJ14 ∧ mJ14_compareTo.1.cls ≠ "java/lang/invoke/MethodHandle" ∧ mJ14_compareTo.1.cls ≠ "java/lang/invoke/VarHandle" ∧ (parseMethodDescriptor mJ14_compareTo.1.desc).map (fun d => d.parameters.length) = some 2 := ⟨rfl, by decide +kernel, by decide +kernel, by decide +kernel⟩
def mJ14_compareToUTF16 : MI := (yJ14_compareToUTF16, cJ14_compareToUTF16, 4, (some .int))
theorem vm_J14_compareToUTF16 : mJ14_compareToUTF16.1.cls = RJ14 ∧ mJ14_compareToUTF16.1.cls ≠ "java/lang/invoke/MethodHandle" ∧ mJ14_compareToUTF16.1.cls ≠ "java/lang/invoke/VarHandle" ∧ (parseMethodDescriptor mJ14_compareToUTF16.1.desc).map (fun d => d.parameters.length) = some 2 := ⟨rfl, by decide +kernel, by decide +kernel, by decide +kernel⟩
def mJ14_compareToUTF16Values : MI := (yJ14_compareToUTF16Values, cJ14_compareToUTF16Values, 8, (some .int))
theorem vm_J14_compareToUTF16Values : mJ14_compareToUTF16Values.1.cls = RJ14 ∧ mJ14_compareToUTF16Values.1.cls ≠ "java/lang/invoke/MethodHandle" ∧ mJ14_compareToUTF16Values.1.cls ≠ "java/lang/invoke/VarHandle" ∧ (parseMethodDescriptor mJ14_compareToUTF16Values.1.desc).map (fun d => d.parameters.length) = some 4 := ⟨rfl, by decide +kernel, by decide +kernel, by decide +kernel⟩
def mJ14_compareToUTF16_2 : MI := (yJ14_compareToUTF16_2, cJ14_compareToUTF16_2, 4, (some .int))
theorem vm_J14_compareToUTF16_2 : mJ14_compareToUTF16_2.1.cls = RJ14 ∧ mJ14_compareToUTF16_2.1.cls ≠ "java/lang/invoke/MethodHandle" ∧ mJ14_compareToUTF16_2.1.cls ≠ "java/lang/invoke/VarHandle" ∧ (parseMethodDescriptor mJ14_compareToUTF16_2.1.desc).map (fun d => d.parameters.length) = some 4 := ⟨rfl, by decide +kernel, by decide +kernel, by decide +kernel⟩
def mJ14_compareTo_2 : MI := (yJ14_compareTo_2, cJ14_compareTo_2, 6, (some .int))
theorem vm_J14_compareTo_2 : mJ14_compareTo_2.1.cls = RJ14 ∧ mJ14_compareTo_2.1.cls ≠ "java/lang/invoke/MethodHandle" ∧ mJ14_compareTo_2.1.cls ≠ "java/lang/invoke/VarHandle" ∧ (parseMethodDescriptor mJ14_compareTo_2.1.desc).map (fun d => d.parameters.length) = some 4 := ⟨rfl, by decide +kernel, by decide +kernel, by decide +kernel⟩
def mJ14_equals : MI := (yJ14_equals, cJ14_equals, 3, (some .boolean))
theorem vm_J14_equals : mJ14_equals.1.cls = RJ14 ∧ mJ14_equals.1.cls ≠ "java/lang/invoke/MethodHandle" ∧ mJ14_equals.1.cls ≠ "java/lang/invoke/VarHandle" ∧ (parseMethodDescriptor mJ14_equals.1.desc).map (fun d => d.parameters.length) = some 2 := ⟨rfl, by decide +kernel, by decide +kernel, by decide +kernel⟩
def mJ14_fillNull : MI := (yJ14_fillNull, cJ14_fillNull, 3, none)
theorem vm_J14_fillNull : mJ14_fillNull.1.cls = RJ14 ∧ mJ14_fillNull.1.cls ≠ "java/lang/invoke/MethodHandle" ∧ mJ14_fillNull.1.cls ≠ "java/lang/invoke/VarHandle" ∧ (parseMethodDescriptor mJ14_fillNull.1.desc).map (fun d => d.parameters.length) = some 3 := ⟨rfl, by decide +kernel, by decide +kernel, by decide +kernel⟩
def mJ14_getChar : MI := (yJ14_getChar, cJ14_getChar, 2, (some .char))
theorem vm_J14_getChar : mJ14_getChar.1.cls = RJ14 ∧ mJ14_getChar.1.cls ≠ "java/lang/invoke/MethodHandle" ∧ mJ14_getChar.1.cls ≠ "java/lang/invoke/VarHandle" ∧ (parseMethodDescriptor mJ14_getChar.1.desc).map (fun d => d.parameters.length) = some 2 := ⟨rfl, by decide +kernel, by decide +kernel, by decide +kernel⟩
def mJ14_hashCode : MI := (yJ14_hashCode, cJ14_hashCode, 1, (some .int))
theorem vm_J14_hashCode : mJ14_hashCode.1.cls = RJ14 ∧ mJ14_hashCode.1.cls ≠ "java/lang/invoke/MethodHandle" ∧ mJ14_hashCode.1.cls ≠ "java/lang/invoke/VarHandle" ∧ (parseMethodDescriptor mJ14_hashCode.1.desc).map (fun d => d.parameters.length) = some 1 := ⟨rfl, by decide +kernel, by decide +kernel, by decide +kernel⟩
def mJ14_inflate : MI := (yJ14_inflate, cJ14_inflate, 5, none)
theorem vm_J14_inflate : mJ14_inflate.1.cls = RJ14 ∧ mJ14_inflate.1.cls ≠ "java/lang/invoke/MethodHandle" ∧ mJ14_inflate.1.cls ≠ "java/lang/invoke/VarHandle" ∧ (parseMethodDescriptor mJ14_inflate.1.desc).map (fun d => d.parameters.length) = some 5 := ⟨rfl, by decide +kernel, by decide +kernel, by decide +kernel⟩
def mJ14_length : MI := (yJ14_length, cJ14_length, 1, (some .int))
theorem vm_J14_length : mJ14_length.1.cls = RJ14 ∧ mJ14_length.1.cls ≠ "java/lang/invoke/MethodHandle" ∧ mJ14_length.1.cls ≠ "java/lang/invoke/VarHandle" ∧ (parseMethodDescriptor mJ14_length.1.desc).map (fun d => d.parameters.length) = some 1 := ⟨rfl, by decide +kernel, by decide +kernel, by decide +kernel⟩
def mJ15_hashCode : MI := (yJ15_hashCode, cJ15_hashCode, 6, (some .int))
theorem vm_J15_hashCode : mJ15_hashCode.1.cls = RJ15 ∧ mJ15_hashCode.1.cls ≠ "java/lang/invoke/MethodHandle" ∧ mJ15_hashCode.1.cls ≠ "java/lang/invoke/VarHandle" ∧ (parseMethodDescriptor mJ15_hashCode.1.desc).map (fun d => d.parameters.length) = some 4 := ⟨rfl, by decide +kernel, by decide +kernel, by decide +kernel⟩
def mJ15_hashCode_2 : MI := (yJ15_hashCode_2, cJ15_hashCode_2, 6, (some .int))
theorem vm_J15_hashCode_2 : mJ15_hashCode_2.1.cls = RJ15 ∧ mJ15_hashCode_2.1.cls ≠ "java/lang/invoke/MethodHandle" ∧ mJ15_hashCode_2.1.cls ≠ "java/lang/invoke/VarHandle" ∧ (parseMethodDescriptor mJ15_hashCode_2.1.desc).map (fun d => d.parameters.length) = some 4 := ⟨rfl, by decide +kernel, by decide +kernel, by decide +kernel⟩
def mJ15_hashCode_3 : MI := (yJ15_hashCode_3, cJ15_hashCode_3, 6, (some .int))
theorem vm_J15_hashCode_3 : mJ15_hashCode_3.1.cls = RJ15 ∧ mJ15_hashCode_3.1.cls ≠ "java/lang/invoke/MethodHandle" ∧ mJ15_hashCode_3.1.cls ≠ "java/lang/invoke/VarHandle" ∧ (parseMethodDescriptor mJ15_hashCode_3.1.desc).map (fun d => d.parameters.length) = some 4 := ⟨rfl, by decide +kernel, by decide +kernel, by decide +kernel⟩
def mJ15_hashCode_4 : MI := (yJ15_hashCode_4, cJ15_hashCode_4, 6, (some .int))
theorem vm_J15_hashCode_4 : mJ15_hashCode_4.1.cls = RJ15 ∧ mJ15_hashCode_4.1.cls ≠ "java/lang/invoke/MethodHandle" ∧ mJ15_hashCode_4.1.cls ≠ "java/lang/invoke/VarHandle" ∧ (parseMethodDescriptor mJ15_hashCode_4.1.desc).map (fun d => d.parameters.length) = some 4 := ⟨rfl, by decide +kernel, by decide +kernel, by decide +kernel⟩
def mJ15_hugeLength : MI := (yJ15_hugeLength, cJ15_hugeLength, 3, (some .int))
theorem vm_J15_hugeLength : mJ15_hugeLength.1.cls = RJ15 ∧ mJ15_hugeLength.1.cls ≠ "java/lang/invoke/MethodHandle" ∧ mJ15_hugeLength.1.cls ≠ "java/lang/invoke/VarHandle" ∧ (parseMethodDescriptor mJ15_hugeLength.1.desc).map (fun d => d.parameters.length) = some 2 := ⟨rfl, by decide +kernel, by decide +kernel, by decide +kernel⟩
def mJ15_mismatch : MI := (yJ15_mismatch, cJ15_mismatch, 4, (some .int))
theorem vm_J15_mismatch : mJ15_mismatch.1.cls = RJ15 ∧ mJ15_mismatch.1.cls ≠ "java/lang/invoke/MethodHandle" ∧ mJ15_mismatch.1.cls ≠ "java/lang/invoke/VarHandle" ∧ (parseMethodDescriptor mJ15_mismatch.1.desc).map (fun d => d.parameters.length) = some 3 := ⟨rfl, by decide +kernel, by decide +kernel, by decide +kernel⟩
def mJ15_newLength : MI := (yJ15_newLength, cJ15_newLength, 4, (some .int))
theorem vm_J15_newLength : mJ15_newLength.1.cls = RJ15 ∧ mJ15_newLength.1.cls ≠ "java/lang/invoke/MethodHandle" ∧ mJ15_newLength.1.cls ≠ "java/lang/invoke/VarHandle" ∧ (parseMethodDescriptor mJ15_newLength.1.desc).map (fun d => d.parameters.length) = some 3 := ⟨rfl, by decide +kernel, by decide +kernel, by decide +kernel⟩
def mJ15_signedHashCode : MI := (yJ15_signedHashCode, cJ15_signedHashCode, 6, (some .int))
theorem vm_J15_signedHashCode : mJ15_signedHashCode.1.cls = RJ15 ∧ mJ15_signedHashCode.1.cls ≠ "java/lang/invoke/MethodHandle" ∧ mJ15_signedHashCode.1.cls ≠ "java/lang/invoke/VarHandle" ∧ (parseMethodDescriptor mJ15_signedHashCode.1.desc).map (fun d => d.parameters.length) = some 4 := ⟨rfl, by decide +kernel, by decide +kernel, by decide +kernel⟩
def mJ15_utf16hashCode : MI := (yJ15_utf16hashCode, cJ15_utf16hashCode, 6, (some .int))
theorem vm_J15_utf16hashCode : mJ15_utf16hashCode.1.cls = RJ15 ∧ mJ15_utf16hashCode.1.cls ≠ "java/lang/invoke/MethodHandle" ∧ mJ15_utf16hashCode.1.cls ≠ "java/lang/invoke/VarHandle" ∧ (parseMethodDescriptor mJ15_utf16hashCode.1.desc).map (fun d => d.parameters.length) = some 4 := ⟨rfl, by decide +kernel, by decide +kernel, by decide +kernel⟩
def mJ15_vectorizedHashCode : MI := (yJ15_vectorizedHashCode, cJ15_vectorizedHashCode, 5, (some .int))
theorem vm_J15_vectorizedHashCode : mJ15_vectorizedHashCode.1.cls = RJ15 ∧ mJ15_vectorizedHashCode.1.cls ≠ "java/lang/invoke/MethodHandle" ∧ mJ15_vectorizedHashCode.1.cls ≠ "java/lang/invoke/VarHandle" ∧ (parseMethodDescriptor mJ15_vectorizedHashCode.1.desc).map (fun d => d.parameters.length) = some 5 := ⟨rfl, by decide +kernel, by decide +kernel, by decide +kernel⟩
def mJ15_vectorizedMismatch : MI := (yJ15_vectorizedMismatch, cJ15_vectorizedMismatch, 19, (some .int))
theorem vm_J15_vectorizedMismatch : mJ15_vectorizedMismatch.1.cls = RJ15 ∧ mJ15_vectorizedMismatch.1.cls ≠ "java/lang/invoke/MethodHandle" ∧ mJ15_vectorizedMismatch.1.cls ≠ "java/lang/invoke/VarHandle" ∧ (parseMethodDescriptor mJ15_vectorizedMismatch.1.desc).map (fun d => d.parameters.length) = some 6 := ⟨rfl, by decide +kernel, by decide +kernel, by decide +kernel⟩
def mJ16_init : MI := (yJ16_init, cJ16_init, 5, none)
theorem vm_J16_init : mJ16_init.1.cls = RJ16 ∧ mJ16_init.1.cls ≠ "java/lang/invoke/MethodHandle" ∧ mJ16_init.1.cls ≠ "java/lang/invoke/VarHandle" ∧ (parseMethodDescriptor mJ16_init.1.desc).map (fun d => d.parameters.length) = some 4 := ⟨rfl, by decide +kernel, by decide +kernel, by decide +kernel⟩
def mJ17_getIntUnaligned : MI := (yJ17_getIntUnaligned, cJ17_getIntUnaligned, 4, (some .int))
theorem vm_J17_getIntUnaligned : mJ17_getIntUnaligned.1.cls = RJ17 ∧ mJ17_getIntUnaligned.1.cls ≠ "java/lang/invoke/MethodHandle" ∧ mJ17_getIntUnaligned.1.cls ≠ "java/lang/invoke/VarHandle" ∧ (parseMethodDescriptor mJ17_getIntUnaligned.1.desc).map (fun d => d.parameters.length) = some 2 := ⟨rfl, by decide +kernel, by decide +kernel, by decide +kernel⟩
def mJ17_getLongUnaligned : MI := (yJ17_getLongUnaligned, cJ17_getLongUnaligned, 4, (some .long))
theorem vm_J17_getLongUnaligned : mJ17_getLongUnaligned.1.cls = RJ17 ∧ mJ17_getLongUnaligned.1.cls ≠ "java/lang/invoke/MethodHandle" ∧ mJ17_getLongUnaligned.1.cls ≠ "java/lang/invoke/VarHandle" ∧ (parseMethodDescriptor mJ17_getLongUnaligned.1.desc).map (fun d => d.parameters.length) = some 2 := ⟨rfl, by decide +kernel, by decide +kernel, by decide +kernel⟩
def mJ17_makeInt : MI := (yJ17_makeInt, cJ17_makeInt, 2, (some .int))
theorem vm_J17_makeInt : mJ17_makeInt.1.cls = RJ17 ∧ mJ17_makeInt.1.cls ≠ "java/lang/invoke/MethodHandle" ∧ mJ17_makeInt.1.cls ≠ "java/lang/invoke/VarHandle" ∧ (parseMethodDescriptor mJ17_makeInt.1.desc).map (fun d => d.parameters.length) = some 2 := ⟨rfl, by decide +kernel, by decide +kernel, by decide +kernel⟩
def mJ17_makeInt_2 : MI := (yJ17_makeInt_2, cJ17_makeInt_2, 4, (some .int))
theorem vm_J17_makeInt_2 : mJ17_makeInt_2.1.cls = RJ17 ∧ mJ17_makeInt_2.1.cls ≠ "java/lang/invoke/MethodHandle" ∧ mJ17_makeInt_2.1.cls ≠ "java/lang/invoke/VarHandle" ∧ (parseMethodDescriptor mJ17_makeInt_2.1.desc).map (fun d => d.parameters.length) = some 4 := ⟨rfl, by decide +kernel, by decide +kernel, by decide +kernel⟩
def mJ17_makeLong : MI := (yJ17_makeLong, cJ17_makeLong, 2, (some .long))
theorem vm_J17_makeLong : mJ17_makeLong.1.cls = RJ17 ∧ mJ17_makeLong.1.cls ≠ "java/lang/invoke/MethodHandle" ∧ mJ17_makeLong.1.cls ≠ "java/lang/invoke/VarHandle" ∧ (parseMethodDescriptor mJ17_makeLong.1.desc).map (fun d => d.parameters.length) = some 2 := ⟨rfl, by decide +kernel, by decide +kernel, by decide +kernel⟩
def mJ17_makeLong_2 : MI := (yJ17_makeLong_2, cJ17_makeLong_2, 4, (some .long))
theorem vm_J17_makeLong_2 : mJ17_makeLong_2.1.cls = RJ17 ∧ mJ17_makeLong_2.1.cls ≠ "java/lang/invoke/MethodHandle" ∧ mJ17_makeLong_2.1.cls ≠ "java/lang/invoke/VarHandle" ∧ (parseMethodDescriptor mJ17_makeLong_2.1.desc).map (fun d => d.parameters.length) = some 4 := ⟨rfl, by decide +kernel, by decide +kernel, by decide +kernel⟩
def mJ17_makeLong_3 : MI := (yJ17_makeLong_3, cJ17_makeLong_3, 8, (some .long))
theorem vm_J17_makeLong_3 : mJ17_makeLong_3.1.cls = RJ17 ∧ mJ17_makeLong_3.1.cls ≠ "java/lang/invoke/MethodHandle" ∧ mJ17_makeLong_3.1.cls ≠ "java/lang/invoke/VarHandle" ∧ (parseMethodDescriptor mJ17_makeLong_3.1.desc).map (fun d => d.parameters.length) = some 8 := ⟨rfl, by decide +kernel, by decide +kernel, by decide +kernel⟩
def mJ17_pickPos : MI := (yJ17_pickPos, cJ17_pickPos, 2, (some .int))
theorem vm_J17_pickPos : mJ17_pickPos.1.cls = RJ17 ∧ mJ17_pickPos.1.cls ≠ "java/lang/invoke/MethodHandle" ∧ mJ17_pickPos.1.cls ≠ "java/lang/invoke/VarHandle" ∧ (parseMethodDescriptor mJ17_pickPos.1.desc).map (fun d => d.parameters.length) = some 2 := ⟨rfl, by decide +kernel, by decide +kernel, by decide +kernel⟩
def mJ17_toUnsignedInt : MI := (yJ17_toUnsignedInt, cJ17_toUnsignedInt, 1, (some .int))
theorem vm_J17_toUnsignedInt : mJ17_toUnsignedInt.1.cls = RJ17 ∧ mJ17_toUnsignedInt.1.cls ≠ "java/lang/invoke/MethodHandle" ∧ mJ17_toUnsignedInt.1.cls ≠ "java/lang/invoke/VarHandle" ∧ (parseMethodDescriptor mJ17_toUnsignedInt.1.desc).map (fun d => d.parameters.length) = some 1 := ⟨rfl, by decide +kernel, by decide +kernel, by decide +kernel⟩
def mJ17_toUnsignedInt_2 : MI := (yJ17_toUnsignedInt_2, cJ17_toUnsignedInt_2, 1, (some .int))
theorem vm_J17_toUnsignedInt_2 : mJ17_toUnsignedInt_2.1.cls = RJ17 ∧ mJ17_toUnsignedInt_2.1.cls ≠ "java/lang/invoke/MethodHandle" ∧ mJ17_toUnsignedInt_2.1.cls ≠ "java/lang/invoke/VarHandle" ∧ (parseMethodDescriptor mJ17_toUnsignedInt_2.1.desc).map (fun d => d.parameters.length) = some 1 := ⟨rfl, by decide +kernel, by decide +kernel, by decide +kernel⟩
def mJ17_toUnsignedLong : MI := (yJ17_toUnsignedLong, cJ17_toUnsignedLong, 1, (some .long))
theorem vm_J17_toUnsignedLong : mJ17_toUnsignedLong.1.cls = RJ17 ∧ mJ17_toUnsignedLong.1.cls ≠ "java/lang/invoke/MethodHandle" ∧ mJ17_toUnsignedLong.1.cls ≠ "java/lang/invoke/VarHandle" ∧ (parseMethodDescriptor mJ17_toUnsignedLong.1.desc).map (fun d => d.parameters.length) = some 1 := ⟨rfl, by decide +kernel, by decide +kernel, by decide +kernel⟩
def mJ17_toUnsignedLong_2 : MI := (yJ17_toUnsignedLong_2, cJ17_toUnsignedLong_2, 1, (some .long))
theorem vm_J17_toUnsignedLong_2 : mJ17_toUnsignedLong_2.1.cls = RJ17 ∧ mJ17_toUnsignedLong_2.1.cls ≠ "java/lang/invoke/MethodHandle" ∧ mJ17_toUnsignedLong_2.1.cls ≠ "java/lang/invoke/VarHandle" ∧ (parseMethodDescriptor mJ17_toUnsignedLong_2.1.desc).map (fun d => d.parameters.length) = some 1 := ⟨rfl, by decide +kernel, by decide +kernel, by decide +kernel⟩
def mJ17_toUnsignedLong_3 : MI := (yJ17_toUnsignedLong_3, cJ17_toUnsignedLong_3, 1, (some .long))
theorem vm_J17_toUnsignedLong_3 : mJ17_toUnsignedLong_3.1.cls = RJ17 ∧ mJ17_toUnsignedLong_3.1.cls ≠ "java/lang/invoke/MethodHandle" ∧ mJ17_toUnsignedLong_3.1.cls ≠ "java/lang/invoke/VarHandle" ∧ (parseMethodDescriptor mJ17_toUnsignedLong_3.1.desc).map (fun d => d.parameters.length) = some 1 := ⟨rfl, by decide +kernel, by decide +kernel, by decide +kernel⟩
def mJ18_numberOfLeadingZeros : MI := (yJ18_numberOfLeadingZeros, cJ18_numberOfLeadingZeros, 3, (some .int))
theorem vm_J18_numberOfLeadingZeros : mJ18_numberOfLeadingZeros.1.cls = RJ18 ∧ mJ18_numberOfLeadingZeros.1.cls ≠ "java/lang/invoke/MethodHandle" ∧ mJ18_numberOfLeadingZeros.1.cls ≠ "java/lang/invoke/VarHandle" ∧ (parseMethodDescriptor mJ18_numberOfLeadingZeros.1.desc).map (fun d => d.parameters.length) = some 1 := ⟨rfl, by decide +kernel, by decide +kernel, by decide +kernel⟩
def mJ18_numberOfTrailingZeros : MI := (yJ18_numberOfTrailingZeros, cJ18_numberOfTrailingZeros, 3, (some .int))
theorem vm_J18_numberOfTrailingZeros : mJ18_numberOfTrailingZeros.1.cls = RJ18 ∧ mJ18_numberOfTrailingZeros.1.cls ≠ "java/lang/invoke/MethodHandle" ∧ mJ18_numberOfTrailingZeros.1.cls ≠ "java/lang/invoke/VarHandle" ∧ (parseMethodDescriptor mJ18_numberOfTrailingZeros.1.desc).map (fun d => d.parameters.length) = some 1 := ⟨rfl, by decide +kernel, by decide +kernel, by decide +kernel⟩
def mJ19_getChars : MI := (yJ19_getChars, cJ19_getChars, 7, (some .int))
theorem vm_J19_getChars : mJ19_getChars.1.cls = RJ19 ∧ mJ19_getChars.1.cls ≠ "java/lang/invoke/MethodHandle" ∧ mJ19_getChars.1.cls ≠ "java/lang/invoke/VarHandle" ∧ (parseMethodDescriptor mJ19_getChars.1.desc).map (fun d => d.parameters.length) = some 3 := ⟨rfl, by decide +kernel, by decide +kernel, by decide +kernel⟩
def mJ19_numberOfLeadingZeros : MI := (yJ19_numberOfLeadingZeros, cJ19_numberOfLeadingZeros, 2, (some .int))
theorem vm_J19_numberOfLeadingZeros : mJ19_numberOfLeadingZeros.1.cls = RJ19 ∧ mJ19_numberOfLeadingZeros.1.cls ≠ "java/lang/invoke/MethodHandle" ∧ mJ19_numberOfLeadingZeros.1.cls ≠ "java/lang/invoke/VarHandle" ∧ (parseMethodDescriptor mJ19_numberOfLeadingZeros.1.desc).map (fun d => d.parameters.length) = some 1 := ⟨rfl, by decide +kernel, by decide +kernel, by decide +kernel⟩
def mJ19_numberOfTrailingZeros : MI := (yJ19_numberOfTrailingZeros, cJ19_numberOfTrailingZeros, 2, (some .int))
theorem vm_J19_numberOfTrailingZeros : mJ19_numberOfTrailingZeros.1.cls = RJ19 ∧ mJ19_numberOfTrailingZeros.1.cls ≠ "java/lang/invoke/MethodHandle" ∧ mJ19_numberOfTrailingZeros.1.cls ≠ "java/lang/invoke/VarHandle" ∧ (parseMethodDescriptor mJ19_numberOfTrailingZeros.1.desc).map (fun d => d.parameters.length) = some 1 := ⟨rfl, by decide +kernel, by decide +kernel, by decide +kernel⟩
def mJ19_stringSize : MI := (yJ19_stringSize, cJ19_stringSize, 4, (some .int))
theorem vm_J19_stringSize : mJ19_stringSize.1.cls = RJ19 ∧ mJ19_stringSize.1.cls ≠ "java/lang/invoke/MethodHandle" ∧ mJ19_stringSize.1.cls ≠ "java/lang/invoke/VarHandle" ∧ (parseMethodDescriptor mJ19_stringSize.1.desc).map (fun d => d.parameters.length) = some 1 := ⟨rfl, by decide +kernel, by decide +kernel, by decide +kernel⟩
def mJ20_init : MI := (yJ20_init, cJ20_init, 5, none)
theorem vm_J20_init : mJ20_init.1.cls = RJ20 ∧ mJ20_init.1.cls ≠ "java/lang/invoke/MethodHandle" ∧ mJ20_init.1.cls ≠ "java/lang/invoke/VarHandle" ∧ (parseMethodDescriptor mJ20_init.1.desc).map (fun d => d.parameters.length) = some 4 := ⟨rfl, by decide +kernel, by decide +kernel, by decide +kernel⟩
def mJ21_balanceInsertion : MI := (yJ21_balanceInsertion, cJ21_balanceInsertion, 6, (some (.object "java/util/HashMap$TreeNode")))
theorem vm_J21_balanceInsertion : mJ21_balanceInsertion.1.cls = RJ21 ∧ mJ21_balanceInsertion.1.cls ≠ "java/lang/invoke/MethodHandle" ∧ mJ21_balanceInsertion.1.cls ≠ "java/lang/invoke/VarHandle" ∧ (parseMethodDescriptor mJ21_balanceInsertion.1.desc).map (fun d => d.parameters.length) = some 2 := ⟨rfl, by decide +kernel, by decide +kernel, by decide +kernel⟩
def mJ21_find : MI := (yJ21_find, cJ21_find, 11, (some (.object "java/util/HashMap$TreeNode")))
theorem vm_J21_find : mJ21_find.1.cls = RJ21 ∧ mJ21_find.1.cls ≠ "java/lang/invoke/MethodHandle" ∧ mJ21_find.1.cls ≠ "java/lang/invoke/VarHandle" ∧ (parseMethodDescriptor mJ21_find.1.desc).map (fun d => d.parameters.length) = some 3 := ⟨rfl, by decide +kernel, by decide +kernel, by decide +kernel⟩
def mJ21_getTreeNode : MI := (yJ21_getTreeNode, cJ21_getTreeNode, 3, (some (.object "java/util/HashMap$TreeNode")))
theorem vm_J21_getTreeNode : mJ21_getTreeNode.1.cls = RJ21 ∧ mJ21_getTreeNode.1.cls ≠ "java/lang/invoke/MethodHandle" ∧ mJ21_getTreeNode.1.cls ≠ "java/lang/invoke/VarHandle" ∧ (parseMethodDescriptor mJ21_getTreeNode.1.desc).map (fun d => d.parameters.length) = some 2 := ⟨rfl, by decide +kernel, by decide +kernel, by decide +kernel⟩
def mJ21_init : MI := (yJ21_init, cJ21_init, 5, none)
theorem vm_J21_init : mJ21_init.1.cls = RJ21 ∧ mJ21_init.1.cls ≠ "java/lang/invoke/MethodHandle" ∧ mJ21_init.1.cls ≠ "java/lang/invoke/VarHandle" ∧ (parseMethodDescriptor mJ21_init.1.desc).map (fun d => d.parameters.length) = some 4 := ⟨rfl, by decide +kernel, by decide +kernel, by decide +kernel⟩
def mJ21_moveRootToFront : MI := (yJ21_moveRootToFront, cJ21_moveRootToFront, 7, none)
theorem vm_J21_moveRootToFront : mJ21_moveRootToFront.1.cls = RJ21 ∧ mJ21_moveRootToFront.1.cls ≠ "java/lang/invoke/MethodHandle" ∧ mJ21_moveRootToFront.1.cls ≠ "java/lang/invoke/VarHandle" ∧ (parseMethodDescriptor mJ21_moveRootToFront.1.desc).map (fun d => d.parameters.length) = some 2 := ⟨rfl, by decide +kernel, by decide +kernel, by decide +kernel⟩
def mJ21_putTreeVal : MI := (yJ21_putTreeVal, cJ21_putTreeVal, 16, (some (.object "java/util/HashMap$TreeNode")))
theorem vm_J21_putTreeVal : mJ21_putTreeVal.1.cls = RJ21 ∧ mJ21_putTreeVal.1.cls ≠ "java/lang/invoke/MethodHandle" ∧ mJ21_putTreeVal.1.cls ≠ "java/lang/invoke/VarHandle" ∧ (parseMethodDescriptor mJ21_putTreeVal.1.desc).map (fun d => d.parameters.length) = some 5 := ⟨rfl, by decide +kernel, by decide +kernel, by decide +kernel⟩
def mJ21_root : MI := (yJ21_root, cJ21_root, 3, (some (.object "java/util/HashMap$TreeNode")))
theorem vm_J21_root : mJ21_root.1.cls = RJ21 ∧ mJ21_root.1.cls ≠ "java/lang/invoke/MethodHandle" ∧ mJ21_root.1.cls ≠ "java/lang/invoke/VarHandle" ∧ (parseMethodDescriptor mJ21_root.1.desc).map (fun d => d.parameters.length) = some 0 := ⟨rfl, by decide +kernel, by decide +kernel, by decide +kernel⟩
def mJ21_rotateLeft : MI := (yJ21_rotateLeft, cJ21_rotateLeft, 5, (some (.object "java/util/HashMap$TreeNode")))
theorem vm_J21_rotateLeft : mJ21_rotateLeft.1.cls = RJ21 ∧ mJ21_rotateLeft.1.cls ≠ "java/lang/invoke/MethodHandle" ∧ mJ21_rotateLeft.1.cls ≠ "java/lang/invoke/VarHandle" ∧ (parseMethodDescriptor mJ21_rotateLeft.1.desc).map (fun d => d.parameters.length) = some 2 := ⟨rfl, by decide +kernel, by decide +kernel, by decide +kernel⟩
def mJ21_rotateRight : MI := (yJ21_rotateRight, cJ21_rotateRight, 5, (some (.object "java/util/HashMap$TreeNode")))
theorem vm_J21_rotateRight : mJ21_rotateRight.1.cls = RJ21 ∧ mJ21_rotateRight.1.cls ≠ "java/lang/invoke/MethodHandle" ∧ mJ21_rotateRight.1.cls ≠ "java/lang/invoke/VarHandle" ∧ (parseMethodDescriptor mJ21_rotateRight.1.desc).map (fun d => d.parameters.length) = some 2 := ⟨rfl, by decide +kernel, by decide +kernel, by decide +kernel⟩
def mJ21_split : MI := (yJ21_split, cJ21_split, 14, none)
theorem vm_J21_split : mJ21_split.1.cls = RJ21 ∧ mJ21_split.1.cls ≠ "java/lang/invoke/MethodHandle" ∧ mJ21_split.1.cls ≠ "java/lang/invoke/VarHandle" ∧ (parseMethodDescriptor mJ21_split.1.desc).map (fun d => d.parameters.length) = some 4 := ⟨rfl, by decide +kernel, by decide +kernel, by decide +kernel⟩
def mJ21_treeify : MI := (yJ21_treeify, cJ21_treeify, 13, none)
theorem vm_J21_treeify : mJ21_treeify.1.cls = RJ21 ∧ mJ21_treeify.1.cls ≠ "java/lang/invoke/MethodHandle" ∧ mJ21_treeify.1.cls ≠ "java/lang/invoke/VarHandle" ∧ (parseMethodDescriptor mJ21_treeify.1.desc).map (fun d => d.parameters.length) = some 1 := ⟨rfl, by decide +kernel, by decide +kernel, by decide +kernel⟩
def mJ21_untreeify : MI := (yJ21_untreeify, cJ21_untreeify, 6, (some (.object "java/util/HashMap$Node")))
theorem vm_J21_untreeify : mJ21_untreeify.1.cls = RJ21 ∧ mJ21_untreeify.1.cls ≠ "java/lang/invoke/MethodHandle" ∧ mJ21_untreeify.1.cls ≠ "java/lang/invoke/VarHandle" ∧ (parseMethodDescriptor mJ21_untreeify.1.desc).map (fun d => d.parameters.length) = some 1 := ⟨rfl, by decide +kernel, by decide +kernel, by decide +kernel⟩
def mJ22_checkLength : MI := (yJ22_checkLength, cJ22_checkLength, 2, none)
theorem vm_J22_checkLength : mJ22_checkLength.1.cls = RJ22 ∧ mJ22_checkLength.1.cls ≠ "java/lang/invoke/MethodHandle" ∧ mJ22_checkLength.1.cls ≠ "java/lang/invoke/VarHandle" ∧ (parseMethodDescriptor mJ22_checkLength.1.desc).map (fun d => d.parameters.length) = some 2 := ⟨rfl, by decide +kernel, by decide +kernel, by decide +kernel⟩
def mJ22_copyOf : MI := (yJ22_copyOf, cJ22_copyOf, 2, (some (.array (.object "java/lang/Object"))))
theorem vm_J22_copyOf : mJ22_copyOf.1.cls = RJ22 ∧ mJ22_copyOf.1.cls ≠ "java/lang/invoke/MethodHandle" ∧ mJ22_copyOf.1.cls ≠ "java/lang/invoke/VarHandle" ∧ (parseMethodDescriptor mJ22_copyOf.1.desc).map (fun d => d.parameters.length) = some 2 := ⟨rfl, by decide +kernel, by decide +kernel, by decide +kernel⟩
def mJ22_copyOfRange : MI := (yJ22_copyOfRange, cJ22_copyOfRange, 3, (some (.array .byte)))
theorem vm_J22_copyOfRange : mJ22_copyOfRange.1.cls = RJ22 ∧ mJ22_copyOfRange.1.cls ≠ "java/lang/invoke/MethodHandle" ∧ mJ22_copyOfRange.1.cls ≠ "java/lang/invoke/VarHandle" ∧ (parseMethodDescriptor mJ22_copyOfRange.1.desc).map (fun d => d.parameters.length) = some 3 := ⟨rfl, by decide +kernel, by decide +kernel, by decide +kernel⟩
def mJ22_copyOfRangeByte : MI := (yJ22_copyOfRangeByte, cJ22_copyOfRangeByte, 5, (some (.array .byte)))
theorem vm_J22_copyOfRangeByte : mJ22_copyOfRangeByte.1.cls = RJ22 ∧ mJ22_copyOfRangeByte.1.cls ≠ "java/lang/invoke/MethodHandle" ∧ mJ22_copyOfRangeByte.1.cls ≠ "java/lang/invoke/VarHandle" ∧ (parseMethodDescriptor mJ22_copyOfRangeByte.1.desc).map (fun d => d.parameters.length) = some 3 := ⟨rfl, by decide +kernel, by decide +kernel, by decide +kernel⟩
def mJ22_copyOf_2 : MI := (yJ22_copyOf_2, cJ22_copyOf_2, 4, (some (.array (.object "java/lang/Object"))))
theorem vm_J22_copyOf_2 : mJ22_copyOf_2.1.cls = RJ22 ∧ mJ22_copyOf_2.1.cls ≠ "java/lang/invoke/MethodHandle" ∧ mJ22_copyOf_2.1.cls ≠ "java/lang/invoke/VarHandle" ∧ (parseMethodDescriptor mJ22_copyOf_2.1.desc).map (fun d => d.parameters.length) = some 3 := ⟨rfl, by decide +kernel, by decide +kernel, by decide +kernel⟩
def mJ22_copyOf_3 : MI := (yJ22_copyOf_3, cJ22_copyOf_3, 3, (some (.array .byte)))
theorem vm_J22_copyOf_3 : mJ22_copyOf_3.1.cls = RJ22 ∧ mJ22_copyOf_3.1.cls ≠ "java/lang/invoke/MethodHandle" ∧ mJ22_copyOf_3.1.cls ≠ "java/lang/invoke/VarHandle" ∧ (parseMethodDescriptor mJ22_copyOf_3.1.desc).map (fun d => d.parameters.length) = some 2 := ⟨rfl, by decide +kernel, by decide +kernel, by decide +kernel⟩
def mJ22_fill : MI := (yJ22_fill, cJ22_fill, 5, none)
theorem vm_J22_fill : mJ22_fill.1.cls = RJ22 ∧ mJ22_fill.1.cls ≠ "java/lang/invoke/MethodHandle" ∧ mJ22_fill.1.cls ≠ "java/lang/invoke/VarHandle" ∧ (parseMethodDescriptor mJ22_fill.1.desc).map (fun d => d.parameters.length) = some 4 := ⟨rfl, by decide +kernel, by decide +kernel, by decide +kernel⟩
def mJ22_rangeCheck : MI := (yJ22_rangeCheck, cJ22_rangeCheck, 3, none)
theorem vm_J22_rangeCheck : mJ22_rangeCheck.1.cls = RJ22 ∧ mJ22_rangeCheck.1.cls ≠ "java/lang/invoke/MethodHandle" ∧ mJ22_rangeCheck.1.cls ≠ "java/lang/invoke/VarHandle" ∧ (parseMethodDescriptor mJ22_rangeCheck.1.desc).map (fun d => d.parameters.length) = some 3 := ⟨rfl, by decide +kernel, by decide +kernel, by decide +kernel⟩
def mJ23_init : MI := (yJ23_init, cJ23_init, 1, none)
theorem vm_J23_init : mJ23_init.1.cls = RJ23 ∧ mJ23_init.1.cls ≠ "java/lang/invoke/MethodHandle" ∧ mJ23_init.1.cls ≠ "java/lang/invoke/VarHandle" ∧ (parseMethodDescriptor mJ23_init.1.desc).map (fun d => d.parameters.length) = some 0 := ⟨rfl, by decide +kernel, by decide +kernel, by decide +kernel⟩
def mJ23_init_2 : MI := (yJ23_init_2, cJ23_init_2, 2, none)
theorem vm_J23_init_2 : mJ23_init_2.1.cls = RJ23 ∧ mJ23_init_2.1.cls ≠ "java/lang/invoke/MethodHandle" ∧ mJ23_init_2.1.cls ≠ "java/lang/invoke/VarHandle" ∧ (parseMethodDescriptor mJ23_init_2.1.desc).map (fun d => d.parameters.length) = some 1 := ⟨rfl, by decide +kernel, by decide +kernel, by decide +kernel⟩
def mJ24_init : MI := (yJ24_init, cJ24_init, 2, none)
theorem vm_J24_init : mJ24_init.1.cls = RJ24 ∧ mJ24_init.1.cls ≠ "java/lang/invoke/MethodHandle" ∧ mJ24_init.1.cls ≠ "java/lang/invoke/VarHandle" ∧ (parseMethodDescriptor mJ24_init.1.desc).map (fun d => d.parameters.length) = some 1 := ⟨rfl, by decide +kernel, by decide +kernel, by decide +kernel⟩
def mJ25_equals : MI := (yJ25_equals, cJ25_equals, 2, (some .boolean))
theorem vm_J25_equals : mJ25_equals.1.cls = RJ25 ∧ mJ25_equals.1.cls ≠ "java/lang/invoke/MethodHandle" ∧ mJ25_equals.1.cls ≠ "java/lang/invoke/VarHandle" ∧ (parseMethodDescriptor mJ25_equals.1.desc).map (fun d => d.parameters.length) = some 1 := ⟨rfl, by decide +kernel, by decide +kernel, by decide +kernel⟩
def mJ25_init : MI := (yJ25_init, cJ25_init, 1, none)
theorem vm_J25_init : mJ25_init.1.cls = RJ25 ∧ mJ25_init.1.cls ≠ "java/lang/invoke/MethodHandle" ∧ mJ25_init.1.cls ≠ "java/lang/invoke/VarHandle" ∧ (parseMethodDescriptor mJ25_init.1.desc).map (fun d => d.parameters.length) = some 0 := ⟨rfl, by decide +kernel, by decide +kernel, by decide +kernel⟩
def mJ26_getUTF16Char : MI := (yJ26_getUTF16Char, cJ26_getUTF16Char, 3, (some .char))
theorem vm_J26_getUTF16Char : mJ26_getUTF16Char.1.cls = RJ26 ∧ mJ26_getUTF16Char.1.cls ≠ "java/lang/invoke/MethodHandle" ∧ mJ26_getUTF16Char.1.cls ≠ "java/lang/invoke/VarHandle" ∧ (parseMethodDescriptor mJ26_getUTF16Char.1.desc).map (fun d => d.parameters.length) = some 2 := ⟨rfl, by decide +kernel, by decide +kernel, by decide +kernel⟩
def mX0_accept : MI := (yX0_accept, cX0_accept, 3, none)
theorem vm_X0_accept : mX0_accept.1.cls = RX0 ∧ mX0_accept.1.cls ≠ "java/lang/invoke/MethodHandle" ∧ mX0_accept.1.cls ≠ "java/lang/invoke/VarHandle" ∧ (parseMethodDescriptor mX0_accept.1.desc).map (fun d => d.parameters.length) = some 2 := ⟨rfl, by decide +kernel, by decide +kernel, by decide +kernel⟩
def mX0_addCrew : MI := (yX0_addCrew, cX0_addCrew, 2, (some .int))
theorem vm_X0_addCrew : mX0_addCrew.1.cls = RX0 ∧ mX0_addCrew.1.cls ≠ "java/lang/invoke/MethodHandle" ∧ mX0_addCrew.1.cls ≠ "java/lang/invoke/VarHandle" ∧ (parseMethodDescriptor mX0_addCrew.1.desc).map (fun d => d.parameters.length) = some 1 := ⟨rfl, by decide +kernel, by decide +kernel, by decide +kernel⟩
def mX0_addLeg : MI := (yX0_addLeg, cX0_addLeg, 6, (some .int))
theorem vm_X0_addLeg : mX0_addLeg.1.cls = RX0 ∧ mX0_addLeg.1.cls ≠ "java/lang/invoke/MethodHandle" ∧ mX0_addLeg.1.cls ≠ "java/lang/invoke/VarHandle" ∧ (parseMethodDescriptor mX0_addLeg.1.desc).map (fun d => d.parameters.length) = some 4 := ⟨rfl, by decide +kernel, by decide +kernel, by decide +kernel⟩
def mX0_at : MI := (yX0_at, cX0_at, 2, (some (.object "CrewPairer$Leg")))
theorem vm_X0_at : mX0_at.1.cls = RX0 ∧ mX0_at.1.cls ≠ "java/lang/invoke/MethodHandle" ∧ mX0_at.1.cls ≠ "java/lang/invoke/VarHandle" ∧ (parseMethodDescriptor mX0_at.1.desc).map (fun d => d.parameters.length) = some 1 := ⟨rfl, by decide +kernel, by decide +kernel, by decide +kernel⟩
def mX0_beginChange : MI := (yX0_beginChange, cX0_beginChange, 1, none)
theorem vm_X0_beginChange : mX0_beginChange.1.cls = RX0 ∧ mX0_beginChange.1.cls ≠ "java/lang/invoke/MethodHandle" ∧ mX0_beginChange.1.cls ≠ "java/lang/invoke/VarHandle" ∧ (parseMethodDescriptor mX0_beginChange.1.desc).map (fun d => d.parameters.length) = some 0 := ⟨rfl, by decide +kernel, by decide +kernel, by decide +kernel⟩
def mX0_bestLeg : MI := (yX0_bestLeg, cX0_bestLeg, 3, (some .int))
theorem vm_X0_bestLeg : mX0_bestLeg.1.cls = RX0 ∧ mX0_bestLeg.1.cls ≠ "java/lang/invoke/MethodHandle" ∧ mX0_bestLeg.1.cls ≠ "java/lang/invoke/VarHandle" ∧ (parseMethodDescriptor mX0_bestLeg.1.desc).map (fun d => d.parameters.length) = some 2 := ⟨rfl, by decide +kernel, by decide +kernel, by decide +kernel⟩
def mX0_bestMinutes : MI := (yX0_bestMinutes, cX0_bestMinutes, 2, (some .int))
theorem vm_X0_bestMinutes : mX0_bestMinutes.1.cls = RX0 ∧ mX0_bestMinutes.1.cls ≠ "java/lang/invoke/MethodHandle" ∧ mX0_bestMinutes.1.cls ≠ "java/lang/invoke/VarHandle" ∧ (parseMethodDescriptor mX0_bestMinutes.1.desc).map (fun d => d.parameters.length) = some 1 := ⟨rfl, by decide +kernel, by decide +kernel, by decide +kernel⟩
def mX0_bestOffer : MI := (yX0_bestOffer, cX0_bestOffer, 4, (some (.object "CrewPairer$Offer")))
theorem vm_X0_bestOffer : mX0_bestOffer.1.cls = RX0 ∧ mX0_bestOffer.1.cls ≠ "java/lang/invoke/MethodHandle" ∧ mX0_bestOffer.1.cls ≠ "java/lang/invoke/VarHandle" ∧ (parseMethodDescriptor mX0_bestOffer.1.desc).map (fun d => d.parameters.length) = some 1 := ⟨rfl, by decide +kernel, by decide +kernel, by decide +kernel⟩
def mX0_called : MI := (yX0_called, cX0_called, 2, (some .int))
theorem vm_X0_called : mX0_called.1.cls = RX0 ∧ mX0_called.1.cls ≠ "java/lang/invoke/MethodHandle" ∧ mX0_called.1.cls ≠ "java/lang/invoke/VarHandle" ∧ (parseMethodDescriptor mX0_called.1.desc).map (fun d => d.parameters.length) = some 1 := ⟨rfl, by decide +kernel, by decide +kernel, by decide +kernel⟩
def mX0_canCall : MI := (yX0_canCall, cX0_canCall, 4, (some .boolean))
theorem vm_X0_canCall : mX0_canCall.1.cls = RX0 ∧ mX0_canCall.1.cls ≠ "java/lang/invoke/MethodHandle" ∧ mX0_canCall.1.cls ≠ "java/lang/invoke/VarHandle" ∧ (parseMethodDescriptor mX0_canCall.1.desc).map (fun d => d.parameters.length) = some 2 := ⟨rfl, by decide +kernel, by decide +kernel, by decide +kernel⟩
def mX0_canRideThenFly : MI := (yX0_canRideThenFly, cX0_canRideThenFly, 4, (some .boolean))
theorem vm_X0_canRideThenFly : mX0_canRideThenFly.1.cls = RX0 ∧ mX0_canRideThenFly.1.cls ≠ "java/lang/invoke/MethodHandle" ∧ mX0_canRideThenFly.1.cls ≠ "java/lang/invoke/VarHandle" ∧ (parseMethodDescriptor mX0_canRideThenFly.1.desc).map (fun d => d.parameters.length) = some 3 := ⟨rfl, by decide +kernel, by decide +kernel, by decide +kernel⟩
def mX0_cancel : MI := (yX0_cancel, cX0_cancel, 5, (some .int))
theorem vm_X0_cancel : mX0_cancel.1.cls = RX0 ∧ mX0_cancel.1.cls ≠ "java/lang/invoke/MethodHandle" ∧ mX0_cancel.1.cls ≠ "java/lang/invoke/VarHandle" ∧ (parseMethodDescriptor mX0_cancel.1.desc).map (fun d => d.parameters.length) = some 1 := ⟨rfl, by decide +kernel, by decide +kernel, by decide +kernel⟩
def mX0_cost : MI := (yX0_cost, cX0_cost, 5, (some .int))
theorem vm_X0_cost : mX0_cost.1.cls = RX0 ∧ mX0_cost.1.cls ≠ "java/lang/invoke/MethodHandle" ∧ mX0_cost.1.cls ≠ "java/lang/invoke/VarHandle" ∧ (parseMethodDescriptor mX0_cost.1.desc).map (fun d => d.parameters.length) = some 2 := ⟨rfl, by decide +kernel, by decide +kernel, by decide +kernel⟩
def mX0_costOf : MI := (yX0_costOf, cX0_costOf, 6, (some .int))
theorem vm_X0_costOf : mX0_costOf.1.cls = RX0 ∧ mX0_costOf.1.cls ≠ "java/lang/invoke/MethodHandle" ∧ mX0_costOf.1.cls ≠ "java/lang/invoke/VarHandle" ∧ (parseMethodDescriptor mX0_costOf.1.desc).map (fun d => d.parameters.length) = some 2 := ⟨rfl, by decide +kernel, by decide +kernel, by decide +kernel⟩
def mX0_crewCount : MI := (yX0_crewCount, cX0_crewCount, 1, (some .int))
theorem vm_X0_crewCount : mX0_crewCount.1.cls = RX0 ∧ mX0_crewCount.1.cls ≠ "java/lang/invoke/MethodHandle" ∧ mX0_crewCount.1.cls ≠ "java/lang/invoke/VarHandle" ∧ (parseMethodDescriptor mX0_crewCount.1.desc).map (fun d => d.parameters.length) = some 0 := ⟨rfl, by decide +kernel, by decide +kernel, by decide +kernel⟩
def mX0_crewOf : MI := (yX0_crewOf, cX0_crewOf, 2, (some (.object "CrewPairer$Crew")))
theorem vm_X0_crewOf : mX0_crewOf.1.cls = RX0 ∧ mX0_crewOf.1.cls ≠ "java/lang/invoke/MethodHandle" ∧ mX0_crewOf.1.cls ≠ "java/lang/invoke/VarHandle" ∧ (parseMethodDescriptor mX0_crewOf.1.desc).map (fun d => d.parameters.length) = some 1 := ⟨rfl, by decide +kernel, by decide +kernel, by decide +kernel⟩
def mX0_delay : MI := (yX0_delay, cX0_delay, 6, (some .int))
theorem vm_X0_delay : mX0_delay.1.cls = RX0 ∧ mX0_delay.1.cls ≠ "java/lang/invoke/MethodHandle" ∧ mX0_delay.1.cls ≠ "java/lang/invoke/VarHandle" ∧ (parseMethodDescriptor mX0_delay.1.desc).map (fun d => d.parameters.length) = some 2 := ⟨rfl, by decide +kernel, by decide +kernel, by decide +kernel⟩
def mX0_drop : MI := (yX0_drop, cX0_drop, 4, (some .int))
theorem vm_X0_drop : mX0_drop.1.cls = RX0 ∧ mX0_drop.1.cls ≠ "java/lang/invoke/MethodHandle" ∧ mX0_drop.1.cls ≠ "java/lang/invoke/VarHandle" ∧ (parseMethodDescriptor mX0_drop.1.desc).map (fun d => d.parameters.length) = some 2 := ⟨rfl, by decide +kernel, by decide +kernel, by decide +kernel⟩
def mX0_duty : MI := (yX0_duty, cX0_duty, 4, (some .int))
theorem vm_X0_duty : mX0_duty.1.cls = RX0 ∧ mX0_duty.1.cls ≠ "java/lang/invoke/MethodHandle" ∧ mX0_duty.1.cls ≠ "java/lang/invoke/VarHandle" ∧ (parseMethodDescriptor mX0_duty.1.desc).map (fun d => d.parameters.length) = some 3 := ⟨rfl, by decide +kernel, by decide +kernel, by decide +kernel⟩
def mX0_dutyCount : MI := (yX0_dutyCount, cX0_dutyCount, 2, (some .int))
theorem vm_X0_dutyCount : mX0_dutyCount.1.cls = RX0 ∧ mX0_dutyCount.1.cls ≠ "java/lang/invoke/MethodHandle" ∧ mX0_dutyCount.1.cls ≠ "java/lang/invoke/VarHandle" ∧ (parseMethodDescriptor mX0_dutyCount.1.desc).map (fun d => d.parameters.length) = some 1 := ⟨rfl, by decide +kernel, by decide +kernel, by decide +kernel⟩
def mX0_dutyEnd : MI := (yX0_dutyEnd, cX0_dutyEnd, 2, (some .int))
theorem vm_X0_dutyEnd : mX0_dutyEnd.1.cls = RX0 ∧ mX0_dutyEnd.1.cls ≠ "java/lang/invoke/MethodHandle" ∧ mX0_dutyEnd.1.cls ≠ "java/lang/invoke/VarHandle" ∧ (parseMethodDescriptor mX0_dutyEnd.1.desc).map (fun d => d.parameters.length) = some 1 := ⟨rfl, by decide +kernel, by decide +kernel, by decide +kernel⟩
def mX0_dutyFrom : MI := (yX0_dutyFrom, cX0_dutyFrom, 3, (some .int))
theorem vm_X0_dutyFrom : mX0_dutyFrom.1.cls = RX0 ∧ mX0_dutyFrom.1.cls ≠ "java/lang/invoke/MethodHandle" ∧ mX0_dutyFrom.1.cls ≠ "java/lang/invoke/VarHandle" ∧ (parseMethodDescriptor mX0_dutyFrom.1.desc).map (fun d => d.parameters.length) = some 1 := ⟨rfl, by decide +kernel, by decide +kernel, by decide +kernel⟩
def mX0_dutyLength : MI := (yX0_dutyLength, cX0_dutyLength, 2, (some .int))
theorem vm_X0_dutyLength : mX0_dutyLength.1.cls = RX0 ∧ mX0_dutyLength.1.cls ≠ "java/lang/invoke/MethodHandle" ∧ mX0_dutyLength.1.cls ≠ "java/lang/invoke/VarHandle" ∧ (parseMethodDescriptor mX0_dutyLength.1.desc).map (fun d => d.parameters.length) = some 1 := ⟨rfl, by decide +kernel, by decide +kernel, by decide +kernel⟩
def mX0_dutyMinutes : MI := (yX0_dutyMinutes, cX0_dutyMinutes, 4, (some .int))
theorem vm_X0_dutyMinutes : mX0_dutyMinutes.1.cls = RX0 ∧ mX0_dutyMinutes.1.cls ≠ "java/lang/invoke/MethodHandle" ∧ mX0_dutyMinutes.1.cls ≠ "java/lang/invoke/VarHandle" ∧ (parseMethodDescriptor mX0_dutyMinutes.1.desc).map (fun d => d.parameters.length) = some 1 := ⟨rfl, by decide +kernel, by decide +kernel, by decide +kernel⟩
def mX0_error : MI := (yX0_error, cX0_error, 1, (some (.object "CrewPairer$CommandException")))
theorem vm_X0_error : mX0_error.1.cls = RX0 ∧ mX0_error.1.cls ≠ "java/lang/invoke/MethodHandle" ∧ mX0_error.1.cls ≠ "java/lang/invoke/VarHandle" ∧ (parseMethodDescriptor mX0_error.1.desc).map (fun d => d.parameters.length) = some 1 := ⟨rfl, by decide +kernel, by decide +kernel, by decide +kernel⟩
def mX0_feed : MI := (yX0_feed, cX0_feed, 2, (some .int))
theorem vm_X0_feed : mX0_feed.1.cls = RX0 ∧ mX0_feed.1.cls ≠ "java/lang/invoke/MethodHandle" ∧ mX0_feed.1.cls ≠ "java/lang/invoke/VarHandle" ∧ (parseMethodDescriptor mX0_feed.1.desc).map (fun d => d.parameters.length) = some 1 := ⟨rfl, by decide +kernel, by decide +kernel, by decide +kernel⟩
def mX0_findBest : MI := (yX0_findBest, cX0_findBest, 2, (some .boolean))
theorem vm_X0_findBest : mX0_findBest.1.cls = RX0 ∧ mX0_findBest.1.cls ≠ "java/lang/invoke/MethodHandle" ∧ mX0_findBest.1.cls ≠ "java/lang/invoke/VarHandle" ∧ (parseMethodDescriptor mX0_findBest.1.desc).map (fun d => d.parameters.length) = some 1 := ⟨rfl, by decide +kernel, by decide +kernel, by decide +kernel⟩
def mX0_findDuties : MI := (yX0_findDuties, cX0_findDuties, 2, none)
theorem vm_X0_findDuties : mX0_findDuties.1.cls = RX0 ∧ mX0_findDuties.1.cls ≠ "java/lang/invoke/MethodHandle" ∧ mX0_findDuties.1.cls ≠ "java/lang/invoke/VarHandle" ∧ (parseMethodDescriptor mX0_findDuties.1.desc).map (fun d => d.parameters.length) = some 0 := ⟨rfl, by decide +kernel, by decide +kernel, by decide +kernel⟩
def mX0_findOpen : MI := (yX0_findOpen, cX0_findOpen, 4, (some .int))
theorem vm_X0_findOpen : mX0_findOpen.1.cls = RX0 ∧ mX0_findOpen.1.cls ≠ "java/lang/invoke/MethodHandle" ∧ mX0_findOpen.1.cls ≠ "java/lang/invoke/VarHandle" ∧ (parseMethodDescriptor mX0_findOpen.1.desc).map (fun d => d.parameters.length) = some 0 := ⟨rfl, by decide +kernel, by decide +kernel, by decide +kernel⟩
def mX0_flownBy : MI := (yX0_flownBy, cX0_flownBy, 4, (some .int))
theorem vm_X0_flownBy : mX0_flownBy.1.cls = RX0 ∧ mX0_flownBy.1.cls ≠ "java/lang/invoke/MethodHandle" ∧ mX0_flownBy.1.cls ≠ "java/lang/invoke/VarHandle" ∧ (parseMethodDescriptor mX0_flownBy.1.desc).map (fun d => d.parameters.length) = some 1 := ⟨rfl, by decide +kernel, by decide +kernel, by decide +kernel⟩
def mX0_fly : MI := (yX0_fly, cX0_fly, 3, (some .int))
theorem vm_X0_fly : mX0_fly.1.cls = RX0 ∧ mX0_fly.1.cls ≠ "java/lang/invoke/MethodHandle" ∧ mX0_fly.1.cls ≠ "java/lang/invoke/VarHandle" ∧ (parseMethodDescriptor mX0_fly.1.desc).map (fun d => d.parameters.length) = some 2 := ⟨rfl, by decide +kernel, by decide +kernel, by decide +kernel⟩
def mX0_gapBefore : MI := (yX0_gapBefore, cX0_gapBefore, 2, (some .int))
theorem vm_X0_gapBefore : mX0_gapBefore.1.cls = RX0 ∧ mX0_gapBefore.1.cls ≠ "java/lang/invoke/MethodHandle" ∧ mX0_gapBefore.1.cls ≠ "java/lang/invoke/VarHandle" ∧ (parseMethodDescriptor mX0_gapBefore.1.desc).map (fun d => d.parameters.length) = some 1 := ⟨rfl, by decide +kernel, by decide +kernel, by decide +kernel⟩
def mX0_goTo : MI := (yX0_goTo, cX0_goTo, 5, (some .int))
theorem vm_X0_goTo : mX0_goTo.1.cls = RX0 ∧ mX0_goTo.1.cls ≠ "java/lang/invoke/MethodHandle" ∧ mX0_goTo.1.cls ≠ "java/lang/invoke/VarHandle" ∧ (parseMethodDescriptor mX0_goTo.1.desc).map (fun d => d.parameters.length) = some 1 := ⟨rfl, by decide +kernel, by decide +kernel, by decide +kernel⟩
def mX0_hasViolation : MI := (yX0_hasViolation, cX0_hasViolation, 2, (some .boolean))
theorem vm_X0_hasViolation : mX0_hasViolation.1.cls = RX0 ∧ mX0_hasViolation.1.cls ≠ "java/lang/invoke/MethodHandle" ∧ mX0_hasViolation.1.cls ≠ "java/lang/invoke/VarHandle" ∧ (parseMethodDescriptor mX0_hasViolation.1.desc).map (fun d => d.parameters.length) = some 1 := ⟨rfl, by decide +kernel, by decide +kernel, by decide +kernel⟩
def mX0_home : MI := (yX0_home, cX0_home, 2, (some .int))
theorem vm_X0_home : mX0_home.1.cls = RX0 ∧ mX0_home.1.cls ≠ "java/lang/invoke/MethodHandle" ∧ mX0_home.1.cls ≠ "java/lang/invoke/VarHandle" ∧ (parseMethodDescriptor mX0_home.1.desc).map (fun d => d.parameters.length) = some 1 := ⟨rfl, by decide +kernel, by decide +kernel, by decide +kernel⟩
def mX0_init : MI := (yX0_init, cX0_init, 1, none)
theorem vm_X0_init : mX0_init.1.cls = RX0 ∧ mX0_init.1.cls ≠ "java/lang/invoke/MethodHandle" ∧ mX0_init.1.cls ≠ "java/lang/invoke/VarHandle" ∧ (parseMethodDescriptor mX0_init.1.desc).map (fun d => d.parameters.length) = some 0 := ⟨rfl, by decide +kernel, by decide +kernel, by decide +kernel⟩
def mX0_insert : MI := (yX0_insert, cX0_insert, 4, (some .int))
theorem vm_X0_insert : mX0_insert.1.cls = RX0 ∧ mX0_insert.1.cls ≠ "java/lang/invoke/MethodHandle" ∧ mX0_insert.1.cls ≠ "java/lang/invoke/VarHandle" ∧ (parseMethodDescriptor mX0_insert.1.desc).map (fun d => d.parameters.length) = some 2 := ⟨rfl, by decide +kernel, by decide +kernel, by decide +kernel⟩
def mX0_isBefore : MI := (yX0_isBefore, cX0_isBefore, 4, (some .boolean))
theorem vm_X0_isBefore : mX0_isBefore.1.cls = RX0 ∧ mX0_isBefore.1.cls ≠ "java/lang/invoke/MethodHandle" ∧ mX0_isBefore.1.cls ≠ "java/lang/invoke/VarHandle" ∧ (parseMethodDescriptor mX0_isBefore.1.desc).map (fun d => d.parameters.length) = some 2 := ⟨rfl, by decide +kernel, by decide +kernel, by decide +kernel⟩
def mX0_isBetween : MI := (yX0_isBetween, cX0_isBetween, 3, (some .boolean))
theorem vm_X0_isBetween : mX0_isBetween.1.cls = RX0 ∧ mX0_isBetween.1.cls ≠ "java/lang/invoke/MethodHandle" ∧ mX0_isBetween.1.cls ≠ "java/lang/invoke/VarHandle" ∧ (parseMethodDescriptor mX0_isBetween.1.desc).map (fun d => d.parameters.length) = some 3 := ⟨rfl, by decide +kernel, by decide +kernel, by decide +kernel⟩
def mX0_isCrew : MI := (yX0_isCrew, cX0_isCrew, 2, (some .boolean))
theorem vm_X0_isCrew : mX0_isCrew.1.cls = RX0 ∧ mX0_isCrew.1.cls ≠ "java/lang/invoke/MethodHandle" ∧ mX0_isCrew.1.cls ≠ "java/lang/invoke/VarHandle" ∧ (parseMethodDescriptor mX0_isCrew.1.desc).map (fun d => d.parameters.length) = some 1 := ⟨rfl, by decide +kernel, by decide +kernel, by decide +kernel⟩
def mX0_isLeg : MI := (yX0_isLeg, cX0_isLeg, 2, (some .boolean))
theorem vm_X0_isLeg : mX0_isLeg.1.cls = RX0 ∧ mX0_isLeg.1.cls ≠ "java/lang/invoke/MethodHandle" ∧ mX0_isLeg.1.cls ≠ "java/lang/invoke/VarHandle" ∧ (parseMethodDescriptor mX0_isLeg.1.desc).map (fun d => d.parameters.length) = some 1 := ⟨rfl, by decide +kernel, by decide +kernel, by decide +kernel⟩
def mX0_isLegal : MI := (yX0_isLegal, cX0_isLegal, 1, (some .boolean))
theorem vm_X0_isLegal : mX0_isLegal.1.cls = RX0 ∧ mX0_isLegal.1.cls ≠ "java/lang/invoke/MethodHandle" ∧ mX0_isLegal.1.cls ≠ "java/lang/invoke/VarHandle" ∧ (parseMethodDescriptor mX0_isLegal.1.desc).map (fun d => d.parameters.length) = some 0 := ⟨rfl, by decide +kernel, by decide +kernel, by decide +kernel⟩
def mX0_isOpen : MI := (yX0_isOpen, cX0_isOpen, 2, (some .boolean))
theorem vm_X0_isOpen : mX0_isOpen.1.cls = RX0 ∧ mX0_isOpen.1.cls ≠ "java/lang/invoke/MethodHandle" ∧ mX0_isOpen.1.cls ≠ "java/lang/invoke/VarHandle" ∧ (parseMethodDescriptor mX0_isOpen.1.desc).map (fun d => d.parameters.length) = some 1 := ⟨rfl, by decide +kernel, by decide +kernel, by decide +kernel⟩
def mX0_isRowHome : MI := (yX0_isRowHome, cX0_isRowHome, 1, (some .boolean))
theorem vm_X0_isRowHome : mX0_isRowHome.1.cls = RX0 ∧ mX0_isRowHome.1.cls ≠ "java/lang/invoke/MethodHandle" ∧ mX0_isRowHome.1.cls ≠ "java/lang/invoke/VarHandle" ∧ (parseMethodDescriptor mX0_isRowHome.1.desc).map (fun d => d.parameters.length) = some 0 := ⟨rfl, by decide +kernel, by decide +kernel, by decide +kernel⟩
def mX0_item : MI := (yX0_item, cX0_item, 5, (some .int))
theorem vm_X0_item : mX0_item.1.cls = RX0 ∧ mX0_item.1.cls ≠ "java/lang/invoke/MethodHandle" ∧ mX0_item.1.cls ≠ "java/lang/invoke/VarHandle" ∧ (parseMethodDescriptor mX0_item.1.desc).map (fun d => d.parameters.length) = some 3 := ⟨rfl, by decide +kernel, by decide +kernel, by decide +kernel⟩
def mX0_itemCount : MI := (yX0_itemCount, cX0_itemCount, 2, (some .int))
theorem vm_X0_itemCount : mX0_itemCount.1.cls = RX0 ∧ mX0_itemCount.1.cls ≠ "java/lang/invoke/MethodHandle" ∧ mX0_itemCount.1.cls ≠ "java/lang/invoke/VarHandle" ∧ (parseMethodDescriptor mX0_itemCount.1.desc).map (fun d => d.parameters.length) = some 1 := ⟨rfl, by decide +kernel, by decide +kernel, by decide +kernel⟩
def mX0_keep : MI := (yX0_keep, cX0_keep, 2, none)
theorem vm_X0_keep : mX0_keep.1.cls = RX0 ∧ mX0_keep.1.cls ≠ "java/lang/invoke/MethodHandle" ∧ mX0_keep.1.cls ≠ "java/lang/invoke/VarHandle" ∧ (parseMethodDescriptor mX0_keep.1.desc).map (fun d => d.parameters.length) = some 1 := ⟨rfl, by decide +kernel, by decide +kernel, by decide +kernel⟩
def mX0_keysWithout : MI := (yX0_keysWithout, cX0_keysWithout, 5, (some (.object "java/util/HashSet")))
theorem vm_X0_keysWithout : mX0_keysWithout.1.cls = RX0 ∧ mX0_keysWithout.1.cls ≠ "java/lang/invoke/MethodHandle" ∧ mX0_keysWithout.1.cls ≠ "java/lang/invoke/VarHandle" ∧ (parseMethodDescriptor mX0_keysWithout.1.desc).map (fun d => d.parameters.length) = some 1 := ⟨rfl, by decide +kernel, by decide +kernel, by decide +kernel⟩
def mX0_least : MI := (yX0_least, cX0_least, 1, (some .int))
theorem vm_X0_least : mX0_least.1.cls = RX0 ∧ mX0_least.1.cls ≠ "java/lang/invoke/MethodHandle" ∧ mX0_least.1.cls ≠ "java/lang/invoke/VarHandle" ∧ (parseMethodDescriptor mX0_least.1.desc).map (fun d => d.parameters.length) = some 1 := ⟨rfl, by decide +kernel, by decide +kernel, by decide +kernel⟩
def mX0_leg : MI := (yX0_leg, cX0_leg, 4, (some .int))
theorem vm_X0_leg : mX0_leg.1.cls = RX0 ∧ mX0_leg.1.cls ≠ "java/lang/invoke/MethodHandle" ∧ mX0_leg.1.cls ≠ "java/lang/invoke/VarHandle" ∧ (parseMethodDescriptor mX0_leg.1.desc).map (fun d => d.parameters.length) = some 2 := ⟨rfl, by decide +kernel, by decide +kernel, by decide +kernel⟩
def mX0_legCount : MI := (yX0_legCount, cX0_legCount, 1, (some .int))
theorem vm_X0_legCount : mX0_legCount.1.cls = RX0 ∧ mX0_legCount.1.cls ≠ "java/lang/invoke/MethodHandle" ∧ mX0_legCount.1.cls ≠ "java/lang/invoke/VarHandle" ∧ (parseMethodDescriptor mX0_legCount.1.desc).map (fun d => d.parameters.length) = some 0 := ⟨rfl, by decide +kernel, by decide +kernel, by decide +kernel⟩
def mX0_legOf : MI := (yX0_legOf, cX0_legOf, 2, (some (.object "CrewPairer$Leg")))
theorem vm_X0_legOf : mX0_legOf.1.cls = RX0 ∧ mX0_legOf.1.cls ≠ "java/lang/invoke/MethodHandle" ∧ mX0_legOf.1.cls ≠ "java/lang/invoke/VarHandle" ∧ (parseMethodDescriptor mX0_legOf.1.desc).map (fun d => d.parameters.length) = some 1 := ⟨rfl, by decide +kernel, by decide +kernel, by decide +kernel⟩
def mX0_letter : MI := (yX0_letter, cX0_letter, 5, (some .int))
theorem vm_X0_letter : mX0_letter.1.cls = RX0 ∧ mX0_letter.1.cls ≠ "java/lang/invoke/MethodHandle" ∧ mX0_letter.1.cls ≠ "java/lang/invoke/VarHandle" ∧ (parseMethodDescriptor mX0_letter.1.desc).map (fun d => d.parameters.length) = some 2 := ⟨rfl, by decide +kernel, by decide +kernel, by decide +kernel⟩
def mX0_letterAt : MI := (yX0_letterAt, cX0_letterAt, 2, (some .int))
theorem vm_X0_letterAt : mX0_letterAt.1.cls = RX0 ∧ mX0_letterAt.1.cls ≠ "java/lang/invoke/MethodHandle" ∧ mX0_letterAt.1.cls ≠ "java/lang/invoke/VarHandle" ∧ (parseMethodDescriptor mX0_letterAt.1.desc).map (fun d => d.parameters.length) = some 2 := ⟨rfl, by decide +kernel, by decide +kernel, by decide +kernel⟩
def mX0_loadRow : MI := (yX0_loadRow, cX0_loadRow, 3, none)
theorem vm_X0_loadRow : mX0_loadRow.1.cls = RX0 ∧ mX0_loadRow.1.cls ≠ "java/lang/invoke/MethodHandle" ∧ mX0_loadRow.1.cls ≠ "java/lang/invoke/VarHandle" ∧ (parseMethodDescriptor mX0_loadRow.1.desc).map (fun d => d.parameters.length) = some 1 := ⟨rfl, by decide +kernel, by decide +kernel, by decide +kernel⟩
def mX0_minutes : MI := (yX0_minutes, cX0_minutes, 2, (some .int))
theorem vm_X0_minutes : mX0_minutes.1.cls = RX0 ∧ mX0_minutes.1.cls ≠ "java/lang/invoke/MethodHandle" ∧ mX0_minutes.1.cls ≠ "java/lang/invoke/VarHandle" ∧ (parseMethodDescriptor mX0_minutes.1.desc).map (fun d => d.parameters.length) = some 1 := ⟨rfl, by decide +kernel, by decide +kernel, by decide +kernel⟩
def mX0_minutesOf : MI := (yX0_minutesOf, cX0_minutesOf, 4, (some .int))
theorem vm_X0_minutesOf : mX0_minutesOf.1.cls = RX0 ∧ mX0_minutesOf.1.cls ≠ "java/lang/invoke/MethodHandle" ∧ mX0_minutesOf.1.cls ≠ "java/lang/invoke/VarHandle" ∧ (parseMethodDescriptor mX0_minutesOf.1.desc).map (fun d => d.parameters.length) = some 1 := ⟨rfl, by decide +kernel, by decide +kernel, by decide +kernel⟩
def mX0_most : MI := (yX0_most, cX0_most, 1, (some .int))
theorem vm_X0_most : mX0_most.1.cls = RX0 ∧ mX0_most.1.cls ≠ "java/lang/invoke/MethodHandle" ∧ mX0_most.1.cls ≠ "java/lang/invoke/VarHandle" ∧ (parseMethodDescriptor mX0_most.1.desc).map (fun d => d.parameters.length) = some 1 := ⟨rfl, by decide +kernel, by decide +kernel, by decide +kernel⟩
def mX0_numbersOf : MI := (yX0_numbersOf, cX0_numbersOf, 3, (some .int))
theorem vm_X0_numbersOf : mX0_numbersOf.1.cls = RX0 ∧ mX0_numbersOf.1.cls ≠ "java/lang/invoke/MethodHandle" ∧ mX0_numbersOf.1.cls ≠ "java/lang/invoke/VarHandle" ∧ (parseMethodDescriptor mX0_numbersOf.1.desc).map (fun d => d.parameters.length) = some 1 := ⟨rfl, by decide +kernel, by decide +kernel, by decide +kernel⟩
def mX0_offer : MI := (yX0_offer, cX0_offer, 4, (some .int))
theorem vm_X0_offer : mX0_offer.1.cls = RX0 ∧ mX0_offer.1.cls ≠ "java/lang/invoke/MethodHandle" ∧ mX0_offer.1.cls ≠ "java/lang/invoke/VarHandle" ∧ (parseMethodDescriptor mX0_offer.1.desc).map (fun d => d.parameters.length) = some 2 := ⟨rfl, by decide +kernel, by decide +kernel, by decide +kernel⟩
def mX0_offersOf : MI := (yX0_offersOf, cX0_offersOf, 6, (some (.object "java/util/ArrayList")))
theorem vm_X0_offersOf : mX0_offersOf.1.cls = RX0 ∧ mX0_offersOf.1.cls ≠ "java/lang/invoke/MethodHandle" ∧ mX0_offersOf.1.cls ≠ "java/lang/invoke/VarHandle" ∧ (parseMethodDescriptor mX0_offersOf.1.desc).map (fun d => d.parameters.length) = some 2 := ⟨rfl, by decide +kernel, by decide +kernel, by decide +kernel⟩
def mX0_open : MI := (yX0_open, cX0_open, 2, (some .int))
theorem vm_X0_open : mX0_open.1.cls = RX0 ∧ mX0_open.1.cls ≠ "java/lang/invoke/MethodHandle" ∧ mX0_open.1.cls ≠ "java/lang/invoke/VarHandle" ∧ (parseMethodDescriptor mX0_open.1.desc).map (fun d => d.parameters.length) = some 1 := ⟨rfl, by decide +kernel, by decide +kernel, by decide +kernel⟩
def mX0_openCount : MI := (yX0_openCount, cX0_openCount, 1, (some .int))
theorem vm_X0_openCount : mX0_openCount.1.cls = RX0 ∧ mX0_openCount.1.cls ≠ "java/lang/invoke/MethodHandle" ∧ mX0_openCount.1.cls ≠ "java/lang/invoke/VarHandle" ∧ (parseMethodDescriptor mX0_openCount.1.desc).map (fun d => d.parameters.length) = some 0 := ⟨rfl, by decide +kernel, by decide +kernel, by decide +kernel⟩
def mX0_pair : MI := (yX0_pair, cX0_pair, 5, (some .int))
theorem vm_X0_pair : mX0_pair.1.cls = RX0 ∧ mX0_pair.1.cls ≠ "java/lang/invoke/MethodHandle" ∧ mX0_pair.1.cls ≠ "java/lang/invoke/VarHandle" ∧ (parseMethodDescriptor mX0_pair.1.desc).map (fun d => d.parameters.length) = some 0 := ⟨rfl, by decide +kernel, by decide +kernel, by decide +kernel⟩
def mX0_pairings : MI := (yX0_pairings, cX0_pairings, 4, (some .int))
theorem vm_X0_pairings : mX0_pairings.1.cls = RX0 ∧ mX0_pairings.1.cls ≠ "java/lang/invoke/MethodHandle" ∧ mX0_pairings.1.cls ≠ "java/lang/invoke/VarHandle" ∧ (parseMethodDescriptor mX0_pairings.1.desc).map (fun d => d.parameters.length) = some 1 := ⟨rfl, by decide +kernel, by decide +kernel, by decide +kernel⟩
def mX0_perform : MI := (yX0_perform, cX0_perform, 6, (some .int))
theorem vm_X0_perform : mX0_perform.1.cls = RX0 ∧ mX0_perform.1.cls ≠ "java/lang/invoke/MethodHandle" ∧ mX0_perform.1.cls ≠ "java/lang/invoke/VarHandle" ∧ (parseMethodDescriptor mX0_perform.1.desc).map (fun d => d.parameters.length) = some 1 := ⟨rfl, by decide +kernel, by decide +kernel, by decide +kernel⟩
def mX0_performAll : MI := (yX0_performAll, cX0_performAll, 3, none)
theorem vm_X0_performAll : mX0_performAll.1.cls = RX0 ∧ mX0_performAll.1.cls ≠ "java/lang/invoke/MethodHandle" ∧ mX0_performAll.1.cls ≠ "java/lang/invoke/VarHandle" ∧ (parseMethodDescriptor mX0_performAll.1.desc).map (fun d => d.parameters.length) = some 1 := ⟨rfl, by decide +kernel, by decide +kernel, by decide +kernel⟩
def mX0_place : MI := (yX0_place, cX0_place, 4, (some .int))
theorem vm_X0_place : mX0_place.1.cls = RX0 ∧ mX0_place.1.cls ≠ "java/lang/invoke/MethodHandle" ∧ mX0_place.1.cls ≠ "java/lang/invoke/VarHandle" ∧ (parseMethodDescriptor mX0_place.1.desc).map (fun d => d.parameters.length) = some 3 := ⟨rfl, by decide +kernel, by decide +kernel, by decide +kernel⟩
def mX0_readCommand : MI := (yX0_readCommand, cX0_readCommand, 7, none)
theorem vm_X0_readCommand : mX0_readCommand.1.cls = RX0 ∧ mX0_readCommand.1.cls ≠ "java/lang/invoke/MethodHandle" ∧ mX0_readCommand.1.cls ≠ "java/lang/invoke/VarHandle" ∧ (parseMethodDescriptor mX0_readCommand.1.desc).map (fun d => d.parameters.length) = some 2 := ⟨rfl, by decide +kernel, by decide +kernel, by decide +kernel⟩
def mX0_readCommands : MI := (yX0_readCommands, cX0_readCommands, 3, (some .int))
theorem vm_X0_readCommands : mX0_readCommands.1.cls = RX0 ∧ mX0_readCommands.1.cls ≠ "java/lang/invoke/MethodHandle" ∧ mX0_readCommands.1.cls ≠ "java/lang/invoke/VarHandle" ∧ (parseMethodDescriptor mX0_readCommands.1.desc).map (fun d => d.parameters.length) = some 1 := ⟨rfl, by decide +kernel, by decide +kernel, by decide +kernel⟩
def mX0_readNumber : MI := (yX0_readNumber, cX0_readNumber, 4, (some .int))
theorem vm_X0_readNumber : mX0_readNumber.1.cls = RX0 ∧ mX0_readNumber.1.cls ≠ "java/lang/invoke/MethodHandle" ∧ mX0_readNumber.1.cls ≠ "java/lang/invoke/VarHandle" ∧ (parseMethodDescriptor mX0_readNumber.1.desc).map (fun d => d.parameters.length) = some 1 := ⟨rfl, by decide +kernel, by decide +kernel, by decide +kernel⟩
def mX0_reason : MI := (yX0_reason, cX0_reason, 4, (some .int))
theorem vm_X0_reason : mX0_reason.1.cls = RX0 ∧ mX0_reason.1.cls ≠ "java/lang/invoke/MethodHandle" ∧ mX0_reason.1.cls ≠ "java/lang/invoke/VarHandle" ∧ (parseMethodDescriptor mX0_reason.1.desc).map (fun d => d.parameters.length) = some 3 := ⟨rfl, by decide +kernel, by decide +kernel, by decide +kernel⟩
def mX0_reasonHere : MI := (yX0_reasonHere, cX0_reasonHere, 4, (some .int))
theorem vm_X0_reasonHere : mX0_reasonHere.1.cls = RX0 ∧ mX0_reasonHere.1.cls ≠ "java/lang/invoke/MethodHandle" ∧ mX0_reasonHere.1.cls ≠ "java/lang/invoke/VarHandle" ∧ (parseMethodDescriptor mX0_reasonHere.1.desc).map (fun d => d.parameters.length) = some 2 := ⟨rfl, by decide +kernel, by decide +kernel, by decide +kernel⟩
def mX0_reasonOf : MI := (yX0_reasonOf, cX0_reasonOf, 4, (some .int))
theorem vm_X0_reasonOf : mX0_reasonOf.1.cls = RX0 ∧ mX0_reasonOf.1.cls ≠ "java/lang/invoke/MethodHandle" ∧ mX0_reasonOf.1.cls ≠ "java/lang/invoke/VarHandle" ∧ (parseMethodDescriptor mX0_reasonOf.1.desc).map (fun d => d.parameters.length) = some 3 := ⟨rfl, by decide +kernel, by decide +kernel, by decide +kernel⟩
def mX0_removal : MI := (yX0_removal, cX0_removal, 3, (some .int))
theorem vm_X0_removal : mX0_removal.1.cls = RX0 ∧ mX0_removal.1.cls ≠ "java/lang/invoke/MethodHandle" ∧ mX0_removal.1.cls ≠ "java/lang/invoke/VarHandle" ∧ (parseMethodDescriptor mX0_removal.1.desc).map (fun d => d.parameters.length) = some 1 := ⟨rfl, by decide +kernel, by decide +kernel, by decide +kernel⟩
def mX0_removeFirstViolation : MI := (yX0_removeFirstViolation, cX0_removeFirstViolation, 4, none)
theorem vm_X0_removeFirstViolation : mX0_removeFirstViolation.1.cls = RX0 ∧ mX0_removeFirstViolation.1.cls ≠ "java/lang/invoke/MethodHandle" ∧ mX0_removeFirstViolation.1.cls ≠ "java/lang/invoke/VarHandle" ∧ (parseMethodDescriptor mX0_removeFirstViolation.1.desc).map (fun d => d.parameters.length) = some 1 := ⟨rfl, by decide +kernel, by decide +kernel, by decide +kernel⟩
def mX0_reorder : MI := (yX0_reorder, cX0_reorder, 4, none)
theorem vm_X0_reorder : mX0_reorder.1.cls = RX0 ∧ mX0_reorder.1.cls ≠ "java/lang/invoke/MethodHandle" ∧ mX0_reorder.1.cls ≠ "java/lang/invoke/VarHandle" ∧ (parseMethodDescriptor mX0_reorder.1.desc).map (fun d => d.parameters.length) = some 1 := ⟨rfl, by decide +kernel, by decide +kernel, by decide +kernel⟩
def mX0_repair : MI := (yX0_repair, cX0_repair, 5, (some .int))
theorem vm_X0_repair : mX0_repair.1.cls = RX0 ∧ mX0_repair.1.cls ≠ "java/lang/invoke/MethodHandle" ∧ mX0_repair.1.cls ≠ "java/lang/invoke/VarHandle" ∧ (parseMethodDescriptor mX0_repair.1.desc).map (fun d => d.parameters.length) = some 0 := ⟨rfl, by decide +kernel, by decide +kernel, by decide +kernel⟩
def mX0_repaired : MI := (yX0_repaired, cX0_repaired, 3, (some .int))
theorem vm_X0_repaired : mX0_repaired.1.cls = RX0 ∧ mX0_repaired.1.cls ≠ "java/lang/invoke/MethodHandle" ∧ mX0_repaired.1.cls ≠ "java/lang/invoke/VarHandle" ∧ (parseMethodDescriptor mX0_repaired.1.desc).map (fun d => d.parameters.length) = some 2 := ⟨rfl, by decide +kernel, by decide +kernel, by decide +kernel⟩
def mX0_reserve : MI := (yX0_reserve, cX0_reserve, 4, (some .int))
theorem vm_X0_reserve : mX0_reserve.1.cls = RX0 ∧ mX0_reserve.1.cls ≠ "java/lang/invoke/MethodHandle" ∧ mX0_reserve.1.cls ≠ "java/lang/invoke/VarHandle" ∧ (parseMethodDescriptor mX0_reserve.1.desc).map (fun d => d.parameters.length) = some 2 := ⟨rfl, by decide +kernel, by decide +kernel, by decide +kernel⟩
def mX0_reserveFor : MI := (yX0_reserveFor, cX0_reserveFor, 4, (some .int))
theorem vm_X0_reserveFor : mX0_reserveFor.1.cls = RX0 ∧ mX0_reserveFor.1.cls ≠ "java/lang/invoke/MethodHandle" ∧ mX0_reserveFor.1.cls ≠ "java/lang/invoke/VarHandle" ∧ (parseMethodDescriptor mX0_reserveFor.1.desc).map (fun d => d.parameters.length) = some 1 := ⟨rfl, by decide +kernel, by decide +kernel, by decide +kernel⟩
def mX0_restore : MI := (yX0_restore, cX0_restore, 1, (some .int))
theorem vm_X0_restore : mX0_restore.1.cls = RX0 ∧ mX0_restore.1.cls ≠ "java/lang/invoke/MethodHandle" ∧ mX0_restore.1.cls ≠ "java/lang/invoke/VarHandle" ∧ (parseMethodDescriptor mX0_restore.1.desc).map (fun d => d.parameters.length) = some 0 := ⟨rfl, by decide +kernel, by decide +kernel, by decide +kernel⟩
def mX0_ride : MI := (yX0_ride, cX0_ride, 3, (some .int))
theorem vm_X0_ride : mX0_ride.1.cls = RX0 ∧ mX0_ride.1.cls ≠ "java/lang/invoke/MethodHandle" ∧ mX0_ride.1.cls ≠ "java/lang/invoke/VarHandle" ∧ (parseMethodDescriptor mX0_ride.1.desc).map (fun d => d.parameters.length) = some 2 := ⟨rfl, by decide +kernel, by decide +kernel, by decide +kernel⟩
def mX0_rowWithin : MI := (yX0_rowWithin, cX0_rowWithin, 5, (some .int))
theorem vm_X0_rowWithin : mX0_rowWithin.1.cls = RX0 ∧ mX0_rowWithin.1.cls ≠ "java/lang/invoke/MethodHandle" ∧ mX0_rowWithin.1.cls ≠ "java/lang/invoke/VarHandle" ∧ (parseMethodDescriptor mX0_rowWithin.1.desc).map (fun d => d.parameters.length) = some 2 := ⟨rfl, by decide +kernel, by decide +kernel, by decide +kernel⟩
def mX0_rule : MI := (yX0_rule, cX0_rule, 2, (some .int))
theorem vm_X0_rule : mX0_rule.1.cls = RX0 ∧ mX0_rule.1.cls ≠ "java/lang/invoke/MethodHandle" ∧ mX0_rule.1.cls ≠ "java/lang/invoke/VarHandle" ∧ (parseMethodDescriptor mX0_rule.1.desc).map (fun d => d.parameters.length) = some 1 := ⟨rfl, by decide +kernel, by decide +kernel, by decide +kernel⟩
def mX0_save : MI := (yX0_save, cX0_save, 1, (some .int))
theorem vm_X0_save : mX0_save.1.cls = RX0 ∧ mX0_save.1.cls ≠ "java/lang/invoke/MethodHandle" ∧ mX0_save.1.cls ≠ "java/lang/invoke/VarHandle" ∧ (parseMethodDescriptor mX0_save.1.desc).map (fun d => d.parameters.length) = some 0 := ⟨rfl, by decide +kernel, by decide +kernel, by decide +kernel⟩
def mX0_search : MI := (yX0_search, cX0_search, 7, none)
theorem vm_X0_search : mX0_search.1.cls = RX0 ∧ mX0_search.1.cls ≠ "java/lang/invoke/MethodHandle" ∧ mX0_search.1.cls ≠ "java/lang/invoke/VarHandle" ∧ (parseMethodDescriptor mX0_search.1.desc).map (fun d => d.parameters.length) = some 3 := ⟨rfl, by decide +kernel, by decide +kernel, by decide +kernel⟩
def mX0_setReserve : MI := (yX0_setReserve, cX0_setReserve, 6, (some .int))
theorem vm_X0_setReserve : mX0_setReserve.1.cls = RX0 ∧ mX0_setReserve.1.cls ≠ "java/lang/invoke/MethodHandle" ∧ mX0_setReserve.1.cls ≠ "java/lang/invoke/VarHandle" ∧ (parseMethodDescriptor mX0_setReserve.1.desc).map (fun d => d.parameters.length) = some 3 := ⟨rfl, by decide +kernel, by decide +kernel, by decide +kernel⟩
def mX0_setRule : MI := (yX0_setRule, cX0_setRule, 4, (some .int))
theorem vm_X0_setRule : mX0_setRule.1.cls = RX0 ∧ mX0_setRule.1.cls ≠ "java/lang/invoke/MethodHandle" ∧ mX0_setRule.1.cls ≠ "java/lang/invoke/VarHandle" ∧ (parseMethodDescriptor mX0_setRule.1.desc).map (fun d => d.parameters.length) = some 2 := ⟨rfl, by decide +kernel, by decide +kernel, by decide +kernel⟩
def mX0_storeRow : MI := (yX0_storeRow, cX0_storeRow, 3, none)
theorem vm_X0_storeRow : mX0_storeRow.1.cls = RX0 ∧ mX0_storeRow.1.cls ≠ "java/lang/invoke/MethodHandle" ∧ mX0_storeRow.1.cls ≠ "java/lang/invoke/VarHandle" ∧ (parseMethodDescriptor mX0_storeRow.1.desc).map (fun d => d.parameters.length) = some 1 := ⟨rfl, by decide +kernel, by decide +kernel, by decide +kernel⟩
def mX0_take : MI := (yX0_take, cX0_take, 5, (some .int))
theorem vm_X0_take : mX0_take.1.cls = RX0 ∧ mX0_take.1.cls ≠ "java/lang/invoke/MethodHandle" ∧ mX0_take.1.cls ≠ "java/lang/invoke/VarHandle" ∧ (parseMethodDescriptor mX0_take.1.desc).map (fun d => d.parameters.length) = some 3 := ⟨rfl, by decide +kernel, by decide +kernel, by decide +kernel⟩
def mX0_takeBest : MI := (yX0_takeBest, cX0_takeBest, 3, (some .int))
theorem vm_X0_takeBest : mX0_takeBest.1.cls = RX0 ∧ mX0_takeBest.1.cls ≠ "java/lang/invoke/MethodHandle" ∧ mX0_takeBest.1.cls ≠ "java/lang/invoke/VarHandle" ∧ (parseMethodDescriptor mX0_takeBest.1.desc).map (fun d => d.parameters.length) = some 1 := ⟨rfl, by decide +kernel, by decide +kernel, by decide +kernel⟩
def mX0_textOf : MI := (yX0_textOf, cX0_textOf, 2, (some (.object "java/lang/CharSequence")))
theorem vm_X0_textOf : mX0_textOf.1.cls = RX0 ∧ mX0_textOf.1.cls ≠ "java/lang/invoke/MethodHandle" ∧ mX0_textOf.1.cls ≠ "java/lang/invoke/VarHandle" ∧ (parseMethodDescriptor mX0_textOf.1.desc).map (fun d => d.parameters.length) = some 2 := ⟨rfl, by decide +kernel, by decide +kernel, by decide +kernel⟩
def mX0_undo : MI := (yX0_undo, cX0_undo, 1, (some .int))
theorem vm_X0_undo : mX0_undo.1.cls = RX0 ∧ mX0_undo.1.cls ≠ "java/lang/invoke/MethodHandle" ∧ mX0_undo.1.cls ≠ "java/lang/invoke/VarHandle" ∧ (parseMethodDescriptor mX0_undo.1.desc).map (fun d => d.parameters.length) = some 0 := ⟨rfl, by decide +kernel, by decide +kernel, by decide +kernel⟩
def mX0_violates : MI := (yX0_violates, cX0_violates, 4, (some .boolean))
theorem vm_X0_violates : mX0_violates.1.cls = RX0 ∧ mX0_violates.1.cls ≠ "java/lang/invoke/MethodHandle" ∧ mX0_violates.1.cls ≠ "java/lang/invoke/VarHandle" ∧ (parseMethodDescriptor mX0_violates.1.desc).map (fun d => d.parameters.length) = some 2 := ⟨rfl, by decide +kernel, by decide +kernel, by decide +kernel⟩
def mX0_violation : MI := (yX0_violation, cX0_violation, 4, (some .int))
theorem vm_X0_violation : mX0_violation.1.cls = RX0 ∧ mX0_violation.1.cls ≠ "java/lang/invoke/MethodHandle" ∧ mX0_violation.1.cls ≠ "java/lang/invoke/VarHandle" ∧ (parseMethodDescriptor mX0_violation.1.desc).map (fun d => d.parameters.length) = some 3 := ⟨rfl, by decide +kernel, by decide +kernel, by decide +kernel⟩
def mX0_violationCount : MI := (yX0_violationCount, cX0_violationCount, 2, (some .int))
theorem vm_X0_violationCount : mX0_violationCount.1.cls = RX0 ∧ mX0_violationCount.1.cls ≠ "java/lang/invoke/MethodHandle" ∧ mX0_violationCount.1.cls ≠ "java/lang/invoke/VarHandle" ∧ (parseMethodDescriptor mX0_violationCount.1.desc).map (fun d => d.parameters.length) = some 1 := ⟨rfl, by decide +kernel, by decide +kernel, by decide +kernel⟩
def mX0_violationsOf : MI := (yX0_violationsOf, cX0_violationsOf, 2, (some .int))
theorem vm_X0_violationsOf : mX0_violationsOf.1.cls = RX0 ∧ mX0_violationsOf.1.cls ≠ "java/lang/invoke/MethodHandle" ∧ mX0_violationsOf.1.cls ≠ "java/lang/invoke/VarHandle" ∧ (parseMethodDescriptor mX0_violationsOf.1.desc).map (fun d => d.parameters.length) = some 1 := ⟨rfl, by decide +kernel, by decide +kernel, by decide +kernel⟩
def mX0_within : MI := (yX0_within, cX0_within, 4, (some .int))
theorem vm_X0_within : mX0_within.1.cls = RX0 ∧ mX0_within.1.cls ≠ "java/lang/invoke/MethodHandle" ∧ mX0_within.1.cls ≠ "java/lang/invoke/VarHandle" ∧ (parseMethodDescriptor mX0_within.1.desc).map (fun d => d.parameters.length) = some 3 := ⟨rfl, by decide +kernel, by decide +kernel, by decide +kernel⟩
def mX1_copy : MI := (yX1_copy, cX1_copy, 3, (some (.object "CrewPairer$State")))
theorem vm_X1_copy : mX1_copy.1.cls = RX1 ∧ mX1_copy.1.cls ≠ "java/lang/invoke/MethodHandle" ∧ mX1_copy.1.cls ≠ "java/lang/invoke/VarHandle" ∧ (parseMethodDescriptor mX1_copy.1.desc).map (fun d => d.parameters.length) = some 0 := ⟨rfl, by decide +kernel, by decide +kernel, by decide +kernel⟩
def mX1_init : MI := (yX1_init, cX1_init, 1, none)
theorem vm_X1_init : mX1_init.1.cls = RX1 ∧ mX1_init.1.cls ≠ "java/lang/invoke/MethodHandle" ∧ mX1_init.1.cls ≠ "java/lang/invoke/VarHandle" ∧ (parseMethodDescriptor mX1_init.1.desc).map (fun d => d.parameters.length) = some 0 := ⟨rfl, by decide +kernel, by decide +kernel, by decide +kernel⟩
def mX2_addCrew : MI := (yX2_addCrew, cX2_addCrew, 4, (some .int))
theorem vm_X2_addCrew : mX2_addCrew.1.cls = RX2 ∧ mX2_addCrew.1.cls ≠ "java/lang/invoke/MethodHandle" ∧ mX2_addCrew.1.cls ≠ "java/lang/invoke/VarHandle" ∧ (parseMethodDescriptor mX2_addCrew.1.desc).map (fun d => d.parameters.length) = some 1 := ⟨rfl, by decide +kernel, by decide +kernel, by decide +kernel⟩
def mX2_addLeg : MI := (yX2_addLeg, cX2_addLeg, 7, (some .int))
theorem vm_X2_addLeg : mX2_addLeg.1.cls = RX2 ∧ mX2_addLeg.1.cls ≠ "java/lang/invoke/MethodHandle" ∧ mX2_addLeg.1.cls ≠ "java/lang/invoke/VarHandle" ∧ (parseMethodDescriptor mX2_addLeg.1.desc).map (fun d => d.parameters.length) = some 4 := ⟨rfl, by decide +kernel, by decide +kernel, by decide +kernel⟩
def mX2_assign : MI := (yX2_assign, cX2_assign, 5, (some .int))
theorem vm_X2_assign : mX2_assign.1.cls = RX2 ∧ mX2_assign.1.cls ≠ "java/lang/invoke/MethodHandle" ∧ mX2_assign.1.cls ≠ "java/lang/invoke/VarHandle" ∧ (parseMethodDescriptor mX2_assign.1.desc).map (fun d => d.parameters.length) = some 3 := ⟨rfl, by decide +kernel, by decide +kernel, by decide +kernel⟩
def mX2_beginsDuty : MI := (yX2_beginsDuty, cX2_beginsDuty, 2, (some .boolean))
theorem vm_X2_beginsDuty : mX2_beginsDuty.1.cls = RX2 ∧ mX2_beginsDuty.1.cls ≠ "java/lang/invoke/MethodHandle" ∧ mX2_beginsDuty.1.cls ≠ "java/lang/invoke/VarHandle" ∧ (parseMethodDescriptor mX2_beginsDuty.1.desc).map (fun d => d.parameters.length) = some 1 := ⟨rfl, by decide +kernel, by decide +kernel, by decide +kernel⟩
def mX2_bestLeg : MI := (yX2_bestLeg, cX2_bestLeg, 3, (some .int))
theorem vm_X2_bestLeg : mX2_bestLeg.1.cls = RX2 ∧ mX2_bestLeg.1.cls ≠ "java/lang/invoke/MethodHandle" ∧ mX2_bestLeg.1.cls ≠ "java/lang/invoke/VarHandle" ∧ (parseMethodDescriptor mX2_bestLeg.1.desc).map (fun d => d.parameters.length) = some 2 := ⟨rfl, by decide +kernel, by decide +kernel, by decide +kernel⟩
def mX2_bestMinutes : MI := (yX2_bestMinutes, cX2_bestMinutes, 2, (some .int))
theorem vm_X2_bestMinutes : mX2_bestMinutes.1.cls = RX2 ∧ mX2_bestMinutes.1.cls ≠ "java/lang/invoke/MethodHandle" ∧ mX2_bestMinutes.1.cls ≠ "java/lang/invoke/VarHandle" ∧ (parseMethodDescriptor mX2_bestMinutes.1.desc).map (fun d => d.parameters.length) = some 1 := ⟨rfl, by decide +kernel, by decide +kernel, by decide +kernel⟩
def mX2_callFor : MI := (yX2_callFor, cX2_callFor, 5, none)
theorem vm_X2_callFor : mX2_callFor.1.cls = RX2 ∧ mX2_callFor.1.cls ≠ "java/lang/invoke/MethodHandle" ∧ mX2_callFor.1.cls ≠ "java/lang/invoke/VarHandle" ∧ (parseMethodDescriptor mX2_callFor.1.desc).map (fun d => d.parameters.length) = some 2 := ⟨rfl, by decide +kernel, by decide +kernel, by decide +kernel⟩
def mX2_called : MI := (yX2_called, cX2_called, 2, (some .int))
theorem vm_X2_called : mX2_called.1.cls = RX2 ∧ mX2_called.1.cls ≠ "java/lang/invoke/MethodHandle" ∧ mX2_called.1.cls ≠ "java/lang/invoke/VarHandle" ∧ (parseMethodDescriptor mX2_called.1.desc).map (fun d => d.parameters.length) = some 1 := ⟨rfl, by decide +kernel, by decide +kernel, by decide +kernel⟩
def mX2_calledFor : MI := (yX2_calledFor, cX2_calledFor, 8, (some .int))
theorem vm_X2_calledFor : mX2_calledFor.1.cls = RX2 ∧ mX2_calledFor.1.cls ≠ "java/lang/invoke/MethodHandle" ∧ mX2_calledFor.1.cls ≠ "java/lang/invoke/VarHandle" ∧ (parseMethodDescriptor mX2_calledFor.1.desc).map (fun d => d.parameters.length) = some 1 := ⟨rfl, by decide +kernel, by decide +kernel, by decide +kernel⟩
def mX2_cancel : MI := (yX2_cancel, cX2_cancel, 5, (some .int))
theorem vm_X2_cancel : mX2_cancel.1.cls = RX2 ∧ mX2_cancel.1.cls ≠ "java/lang/invoke/MethodHandle" ∧ mX2_cancel.1.cls ≠ "java/lang/invoke/VarHandle" ∧ (parseMethodDescriptor mX2_cancel.1.desc).map (fun d => d.parameters.length) = some 1 := ⟨rfl, by decide +kernel, by decide +kernel, by decide +kernel⟩
def mX2_change : MI := (yX2_change, cX2_change, 1, none)
theorem vm_X2_change : mX2_change.1.cls = RX2 ∧ mX2_change.1.cls ≠ "java/lang/invoke/MethodHandle" ∧ mX2_change.1.cls ≠ "java/lang/invoke/VarHandle" ∧ (parseMethodDescriptor mX2_change.1.desc).map (fun d => d.parameters.length) = some 0 := ⟨rfl, by decide +kernel, by decide +kernel, by decide +kernel⟩
def mX2_command : MI := (yX2_command, cX2_command, 6, (some .int))
theorem vm_X2_command : mX2_command.1.cls = RX2 ∧ mX2_command.1.cls ≠ "java/lang/invoke/MethodHandle" ∧ mX2_command.1.cls ≠ "java/lang/invoke/VarHandle" ∧ (parseMethodDescriptor mX2_command.1.desc).map (fun d => d.parameters.length) = some 1 := ⟨rfl, by decide +kernel, by decide +kernel, by decide +kernel⟩
def mX2_consider : MI := (yX2_consider, cX2_consider, 6, none)
theorem vm_X2_consider : mX2_consider.1.cls = RX2 ∧ mX2_consider.1.cls ≠ "java/lang/invoke/MethodHandle" ∧ mX2_consider.1.cls ≠ "java/lang/invoke/VarHandle" ∧ (parseMethodDescriptor mX2_consider.1.desc).map (fun d => d.parameters.length) = some 3 := ⟨rfl, by decide +kernel, by decide +kernel, by decide +kernel⟩
def mX2_cost : MI := (yX2_cost, cX2_cost, 5, (some .int))
theorem vm_X2_cost : mX2_cost.1.cls = RX2 ∧ mX2_cost.1.cls ≠ "java/lang/invoke/MethodHandle" ∧ mX2_cost.1.cls ≠ "java/lang/invoke/VarHandle" ∧ (parseMethodDescriptor mX2_cost.1.desc).map (fun d => d.parameters.length) = some 2 := ⟨rfl, by decide +kernel, by decide +kernel, by decide +kernel⟩
def mX2_costOf : MI := (yX2_costOf, cX2_costOf, 6, (some .int))
theorem vm_X2_costOf : mX2_costOf.1.cls = RX2 ∧ mX2_costOf.1.cls ≠ "java/lang/invoke/MethodHandle" ∧ mX2_costOf.1.cls ≠ "java/lang/invoke/VarHandle" ∧ (parseMethodDescriptor mX2_costOf.1.desc).map (fun d => d.parameters.length) = some 2 := ⟨rfl, by decide +kernel, by decide +kernel, by decide +kernel⟩
def mX2_crewAt : MI := (yX2_crewAt, cX2_crewAt, 2, (some .int))
theorem vm_X2_crewAt : mX2_crewAt.1.cls = RX2 ∧ mX2_crewAt.1.cls ≠ "java/lang/invoke/MethodHandle" ∧ mX2_crewAt.1.cls ≠ "java/lang/invoke/VarHandle" ∧ (parseMethodDescriptor mX2_crewAt.1.desc).map (fun d => d.parameters.length) = some 2 := ⟨rfl, by decide +kernel, by decide +kernel, by decide +kernel⟩
def mX2_crewCount : MI := (yX2_crewCount, cX2_crewCount, 1, (some .int))
theorem vm_X2_crewCount : mX2_crewCount.1.cls = RX2 ∧ mX2_crewCount.1.cls ≠ "java/lang/invoke/MethodHandle" ∧ mX2_crewCount.1.cls ≠ "java/lang/invoke/VarHandle" ∧ (parseMethodDescriptor mX2_crewCount.1.desc).map (fun d => d.parameters.length) = some 0 := ⟨rfl, by decide +kernel, by decide +kernel, by decide +kernel⟩
def mX2_delay : MI := (yX2_delay, cX2_delay, 6, (some .int))
theorem vm_X2_delay : mX2_delay.1.cls = RX2 ∧ mX2_delay.1.cls ≠ "java/lang/invoke/MethodHandle" ∧ mX2_delay.1.cls ≠ "java/lang/invoke/VarHandle" ∧ (parseMethodDescriptor mX2_delay.1.desc).map (fun d => d.parameters.length) = some 2 := ⟨rfl, by decide +kernel, by decide +kernel, by decide +kernel⟩
def mX2_drop : MI := (yX2_drop, cX2_drop, 4, (some .int))
theorem vm_X2_drop : mX2_drop.1.cls = RX2 ∧ mX2_drop.1.cls ≠ "java/lang/invoke/MethodHandle" ∧ mX2_drop.1.cls ≠ "java/lang/invoke/VarHandle" ∧ (parseMethodDescriptor mX2_drop.1.desc).map (fun d => d.parameters.length) = some 2 := ⟨rfl, by decide +kernel, by decide +kernel, by decide +kernel⟩
def mX2_duty : MI := (yX2_duty, cX2_duty, 6, (some .int))
theorem vm_X2_duty : mX2_duty.1.cls = RX2 ∧ mX2_duty.1.cls ≠ "java/lang/invoke/MethodHandle" ∧ mX2_duty.1.cls ≠ "java/lang/invoke/VarHandle" ∧ (parseMethodDescriptor mX2_duty.1.desc).map (fun d => d.parameters.length) = some 3 := ⟨rfl, by decide +kernel, by decide +kernel, by decide +kernel⟩
def mX2_dutyCount : MI := (yX2_dutyCount, cX2_dutyCount, 2, (some .int))
theorem vm_X2_dutyCount : mX2_dutyCount.1.cls = RX2 ∧ mX2_dutyCount.1.cls ≠ "java/lang/invoke/MethodHandle" ∧ mX2_dutyCount.1.cls ≠ "java/lang/invoke/VarHandle" ∧ (parseMethodDescriptor mX2_dutyCount.1.desc).map (fun d => d.parameters.length) = some 1 := ⟨rfl, by decide +kernel, by decide +kernel, by decide +kernel⟩
def mX2_dutyEnd : MI := (yX2_dutyEnd, cX2_dutyEnd, 3, (some .int))
theorem vm_X2_dutyEnd : mX2_dutyEnd.1.cls = RX2 ∧ mX2_dutyEnd.1.cls ≠ "java/lang/invoke/MethodHandle" ∧ mX2_dutyEnd.1.cls ≠ "java/lang/invoke/VarHandle" ∧ (parseMethodDescriptor mX2_dutyEnd.1.desc).map (fun d => d.parameters.length) = some 1 := ⟨rfl, by decide +kernel, by decide +kernel, by decide +kernel⟩
def mX2_dutyMinutes : MI := (yX2_dutyMinutes, cX2_dutyMinutes, 2, (some .int))
theorem vm_X2_dutyMinutes : mX2_dutyMinutes.1.cls = RX2 ∧ mX2_dutyMinutes.1.cls ≠ "java/lang/invoke/MethodHandle" ∧ mX2_dutyMinutes.1.cls ≠ "java/lang/invoke/VarHandle" ∧ (parseMethodDescriptor mX2_dutyMinutes.1.desc).map (fun d => d.parameters.length) = some 1 := ⟨rfl, by decide +kernel, by decide +kernel, by decide +kernel⟩
def mX2_dutyOf : MI := (yX2_dutyOf, cX2_dutyOf, 4, (some .int))
theorem vm_X2_dutyOf : mX2_dutyOf.1.cls = RX2 ∧ mX2_dutyOf.1.cls ≠ "java/lang/invoke/MethodHandle" ∧ mX2_dutyOf.1.cls ≠ "java/lang/invoke/VarHandle" ∧ (parseMethodDescriptor mX2_dutyOf.1.desc).map (fun d => d.parameters.length) = some 1 := ⟨rfl, by decide +kernel, by decide +kernel, by decide +kernel⟩
def mX2_enter : MI := (yX2_enter, cX2_enter, 5, (some .int))
theorem vm_X2_enter : mX2_enter.1.cls = RX2 ∧ mX2_enter.1.cls ≠ "java/lang/invoke/MethodHandle" ∧ mX2_enter.1.cls ≠ "java/lang/invoke/VarHandle" ∧ (parseMethodDescriptor mX2_enter.1.desc).map (fun d => d.parameters.length) = some 3 := ⟨rfl, by decide +kernel, by decide +kernel, by decide +kernel⟩
def mX2_execute : MI := (yX2_execute, cX2_execute, 4, (some .int))
theorem vm_X2_execute : mX2_execute.1.cls = RX2 ∧ mX2_execute.1.cls ≠ "java/lang/invoke/MethodHandle" ∧ mX2_execute.1.cls ≠ "java/lang/invoke/VarHandle" ∧ (parseMethodDescriptor mX2_execute.1.desc).map (fun d => d.parameters.length) = some 0 := ⟨rfl, by decide +kernel, by decide +kernel, by decide +kernel⟩
def mX2_feed : MI := (yX2_feed, cX2_feed, 2, (some .int))
theorem vm_X2_feed : mX2_feed.1.cls = RX2 ∧ mX2_feed.1.cls ≠ "java/lang/invoke/MethodHandle" ∧ mX2_feed.1.cls ≠ "java/lang/invoke/VarHandle" ∧ (parseMethodDescriptor mX2_feed.1.desc).map (fun d => d.parameters.length) = some 1 := ⟨rfl, by decide +kernel, by decide +kernel, by decide +kernel⟩
def mX2_findBest : MI := (yX2_findBest, cX2_findBest, 2, none)
theorem vm_X2_findBest : mX2_findBest.1.cls = RX2 ∧ mX2_findBest.1.cls ≠ "java/lang/invoke/MethodHandle" ∧ mX2_findBest.1.cls ≠ "java/lang/invoke/VarHandle" ∧ (parseMethodDescriptor mX2_findBest.1.desc).map (fun d => d.parameters.length) = some 1 := ⟨rfl, by decide +kernel, by decide +kernel, by decide +kernel⟩
def mX2_findOffer : MI := (yX2_findOffer, cX2_findOffer, 4, none)
theorem vm_X2_findOffer : mX2_findOffer.1.cls = RX2 ∧ mX2_findOffer.1.cls ≠ "java/lang/invoke/MethodHandle" ∧ mX2_findOffer.1.cls ≠ "java/lang/invoke/VarHandle" ∧ (parseMethodDescriptor mX2_findOffer.1.desc).map (fun d => d.parameters.length) = some 1 := ⟨rfl, by decide +kernel, by decide +kernel, by decide +kernel⟩
def mX2_findOpen : MI := (yX2_findOpen, cX2_findOpen, 3, none)
theorem vm_X2_findOpen : mX2_findOpen.1.cls = RX2 ∧ mX2_findOpen.1.cls ≠ "java/lang/invoke/MethodHandle" ∧ mX2_findOpen.1.cls ≠ "java/lang/invoke/VarHandle" ∧ (parseMethodDescriptor mX2_findOpen.1.desc).map (fun d => d.parameters.length) = some 0 := ⟨rfl, by decide +kernel, by decide +kernel, by decide +kernel⟩
def mX2_flierOf : MI := (yX2_flierOf, cX2_flierOf, 4, (some .int))
theorem vm_X2_flierOf : mX2_flierOf.1.cls = RX2 ∧ mX2_flierOf.1.cls ≠ "java/lang/invoke/MethodHandle" ∧ mX2_flierOf.1.cls ≠ "java/lang/invoke/VarHandle" ∧ (parseMethodDescriptor mX2_flierOf.1.desc).map (fun d => d.parameters.length) = some 1 := ⟨rfl, by decide +kernel, by decide +kernel, by decide +kernel⟩
def mX2_flownFrom : MI := (yX2_flownFrom, cX2_flownFrom, 5, (some .int))
theorem vm_X2_flownFrom : mX2_flownFrom.1.cls = RX2 ∧ mX2_flownFrom.1.cls ≠ "java/lang/invoke/MethodHandle" ∧ mX2_flownFrom.1.cls ≠ "java/lang/invoke/VarHandle" ∧ (parseMethodDescriptor mX2_flownFrom.1.desc).map (fun d => d.parameters.length) = some 2 := ⟨rfl, by decide +kernel, by decide +kernel, by decide +kernel⟩
def mX2_flownWithin : MI := (yX2_flownWithin, cX2_flownWithin, 7, (some .int))
theorem vm_X2_flownWithin : mX2_flownWithin.1.cls = RX2 ∧ mX2_flownWithin.1.cls ≠ "java/lang/invoke/MethodHandle" ∧ mX2_flownWithin.1.cls ≠ "java/lang/invoke/VarHandle" ∧ (parseMethodDescriptor mX2_flownWithin.1.desc).map (fun d => d.parameters.length) = some 2 := ⟨rfl, by decide +kernel, by decide +kernel, by decide +kernel⟩
def mX2_fly : MI := (yX2_fly, cX2_fly, 3, (some .int))
theorem vm_X2_fly : mX2_fly.1.cls = RX2 ∧ mX2_fly.1.cls ≠ "java/lang/invoke/MethodHandle" ∧ mX2_fly.1.cls ≠ "java/lang/invoke/VarHandle" ∧ (parseMethodDescriptor mX2_fly.1.desc).map (fun d => d.parameters.length) = some 2 := ⟨rfl, by decide +kernel, by decide +kernel, by decide +kernel⟩
def mX2_gapBefore : MI := (yX2_gapBefore, cX2_gapBefore, 2, (some .int))
theorem vm_X2_gapBefore : mX2_gapBefore.1.cls = RX2 ∧ mX2_gapBefore.1.cls ≠ "java/lang/invoke/MethodHandle" ∧ mX2_gapBefore.1.cls ≠ "java/lang/invoke/VarHandle" ∧ (parseMethodDescriptor mX2_gapBefore.1.desc).map (fun d => d.parameters.length) = some 1 := ⟨rfl, by decide +kernel, by decide +kernel, by decide +kernel⟩
def mX2_give : MI := (yX2_give, cX2_give, 2, none)
theorem vm_X2_give : mX2_give.1.cls = RX2 ∧ mX2_give.1.cls ≠ "java/lang/invoke/MethodHandle" ∧ mX2_give.1.cls ≠ "java/lang/invoke/VarHandle" ∧ (parseMethodDescriptor mX2_give.1.desc).map (fun d => d.parameters.length) = some 1 := ⟨rfl, by decide +kernel, by decide +kernel, by decide +kernel⟩
def mX2_here : MI := (yX2_here, cX2_here, 1, (some .int))
theorem vm_X2_here : mX2_here.1.cls = RX2 ∧ mX2_here.1.cls ≠ "java/lang/invoke/MethodHandle" ∧ mX2_here.1.cls ≠ "java/lang/invoke/VarHandle" ∧ (parseMethodDescriptor mX2_here.1.desc).map (fun d => d.parameters.length) = some 0 := ⟨rfl, by decide +kernel, by decide +kernel, by decide +kernel⟩
def mX2_hinders : MI := (yX2_hinders, cX2_hinders, 4, (some .int))
theorem vm_X2_hinders : mX2_hinders.1.cls = RX2 ∧ mX2_hinders.1.cls ≠ "java/lang/invoke/MethodHandle" ∧ mX2_hinders.1.cls ≠ "java/lang/invoke/VarHandle" ∧ (parseMethodDescriptor mX2_hinders.1.desc).map (fun d => d.parameters.length) = some 3 := ⟨rfl, by decide +kernel, by decide +kernel, by decide +kernel⟩
def mX2_hinders_2 : MI := (yX2_hinders_2, cX2_hinders_2, 5, (some .int))
theorem vm_X2_hinders_2 : mX2_hinders_2.1.cls = RX2 ∧ mX2_hinders_2.1.cls ≠ "java/lang/invoke/MethodHandle" ∧ mX2_hinders_2.1.cls ≠ "java/lang/invoke/VarHandle" ∧ (parseMethodDescriptor mX2_hinders_2.1.desc).map (fun d => d.parameters.length) = some 2 := ⟨rfl, by decide +kernel, by decide +kernel, by decide +kernel⟩
def mX2_home : MI := (yX2_home, cX2_home, 2, (some .int))
theorem vm_X2_home : mX2_home.1.cls = RX2 ∧ mX2_home.1.cls ≠ "java/lang/invoke/MethodHandle" ∧ mX2_home.1.cls ≠ "java/lang/invoke/VarHandle" ∧ (parseMethodDescriptor mX2_home.1.desc).map (fun d => d.parameters.length) = some 1 := ⟨rfl, by decide +kernel, by decide +kernel, by decide +kernel⟩
def mX2_in : MI := (yX2_in, cX2_in, 3, (some .boolean))
theorem vm_X2_in : mX2_in.1.cls = RX2 ∧ mX2_in.1.cls ≠ "java/lang/invoke/MethodHandle" ∧ mX2_in.1.cls ≠ "java/lang/invoke/VarHandle" ∧ (parseMethodDescriptor mX2_in.1.desc).map (fun d => d.parameters.length) = some 3 := ⟨rfl, by decide +kernel, by decide +kernel, by decide +kernel⟩
def mX2_init : MI := (yX2_init, cX2_init, 1, none)
theorem vm_X2_init : mX2_init.1.cls = RX2 ∧ mX2_init.1.cls ≠ "java/lang/invoke/MethodHandle" ∧ mX2_init.1.cls ≠ "java/lang/invoke/VarHandle" ∧ (parseMethodDescriptor mX2_init.1.desc).map (fun d => d.parameters.length) = some 0 := ⟨rfl, by decide +kernel, by decide +kernel, by decide +kernel⟩
def mX2_isCrew : MI := (yX2_isCrew, cX2_isCrew, 2, (some .boolean))
theorem vm_X2_isCrew : mX2_isCrew.1.cls = RX2 ∧ mX2_isCrew.1.cls ≠ "java/lang/invoke/MethodHandle" ∧ mX2_isCrew.1.cls ≠ "java/lang/invoke/VarHandle" ∧ (parseMethodDescriptor mX2_isCrew.1.desc).map (fun d => d.parameters.length) = some 1 := ⟨rfl, by decide +kernel, by decide +kernel, by decide +kernel⟩
def mX2_isFlown : MI := (yX2_isFlown, cX2_isFlown, 2, (some .boolean))
theorem vm_X2_isFlown : mX2_isFlown.1.cls = RX2 ∧ mX2_isFlown.1.cls ≠ "java/lang/invoke/MethodHandle" ∧ mX2_isFlown.1.cls ≠ "java/lang/invoke/VarHandle" ∧ (parseMethodDescriptor mX2_isFlown.1.desc).map (fun d => d.parameters.length) = some 1 := ⟨rfl, by decide +kernel, by decide +kernel, by decide +kernel⟩
def mX2_isHome : MI := (yX2_isHome, cX2_isHome, 1, (some .boolean))
theorem vm_X2_isHome : mX2_isHome.1.cls = RX2 ∧ mX2_isHome.1.cls ≠ "java/lang/invoke/MethodHandle" ∧ mX2_isHome.1.cls ≠ "java/lang/invoke/VarHandle" ∧ (parseMethodDescriptor mX2_isHome.1.desc).map (fun d => d.parameters.length) = some 0 := ⟨rfl, by decide +kernel, by decide +kernel, by decide +kernel⟩
def mX2_isLeg : MI := (yX2_isLeg, cX2_isLeg, 2, (some .boolean))
theorem vm_X2_isLeg : mX2_isLeg.1.cls = RX2 ∧ mX2_isLeg.1.cls ≠ "java/lang/invoke/MethodHandle" ∧ mX2_isLeg.1.cls ≠ "java/lang/invoke/VarHandle" ∧ (parseMethodDescriptor mX2_isLeg.1.desc).map (fun d => d.parameters.length) = some 1 := ⟨rfl, by decide +kernel, by decide +kernel, by decide +kernel⟩
def mX2_isOpen : MI := (yX2_isOpen, cX2_isOpen, 2, (some .boolean))
theorem vm_X2_isOpen : mX2_isOpen.1.cls = RX2 ∧ mX2_isOpen.1.cls ≠ "java/lang/invoke/MethodHandle" ∧ mX2_isOpen.1.cls ≠ "java/lang/invoke/VarHandle" ∧ (parseMethodDescriptor mX2_isOpen.1.desc).map (fun d => d.parameters.length) = some 1 := ⟨rfl, by decide +kernel, by decide +kernel, by decide +kernel⟩
def mX2_isReserve : MI := (yX2_isReserve, cX2_isReserve, 2, (some .boolean))
theorem vm_X2_isReserve : mX2_isReserve.1.cls = RX2 ∧ mX2_isReserve.1.cls ≠ "java/lang/invoke/MethodHandle" ∧ mX2_isReserve.1.cls ≠ "java/lang/invoke/VarHandle" ∧ (parseMethodDescriptor mX2_isReserve.1.desc).map (fun d => d.parameters.length) = some 1 := ⟨rfl, by decide +kernel, by decide +kernel, by decide +kernel⟩
def mX2_isThere : MI := (yX2_isThere, cX2_isThere, 7, (some .boolean))
theorem vm_X2_isThere : mX2_isThere.1.cls = RX2 ∧ mX2_isThere.1.cls ≠ "java/lang/invoke/MethodHandle" ∧ mX2_isThere.1.cls ≠ "java/lang/invoke/VarHandle" ∧ (parseMethodDescriptor mX2_isThere.1.desc).map (fun d => d.parameters.length) = some 4 := ⟨rfl, by decide +kernel, by decide +kernel, by decide +kernel⟩
def mX2_isWay : MI := (yX2_isWay, cX2_isWay, 5, (some .boolean))
theorem vm_X2_isWay : mX2_isWay.1.cls = RX2 ∧ mX2_isWay.1.cls ≠ "java/lang/invoke/MethodHandle" ∧ mX2_isWay.1.cls ≠ "java/lang/invoke/VarHandle" ∧ (parseMethodDescriptor mX2_isWay.1.desc).map (fun d => d.parameters.length) = some 3 := ⟨rfl, by decide +kernel, by decide +kernel, by decide +kernel⟩
def mX2_isWord : MI := (yX2_isWord, cX2_isWord, 5, (some .boolean))
theorem vm_X2_isWord : mX2_isWord.1.cls = RX2 ∧ mX2_isWord.1.cls ≠ "java/lang/invoke/MethodHandle" ∧ mX2_isWord.1.cls ≠ "java/lang/invoke/VarHandle" ∧ (parseMethodDescriptor mX2_isWord.1.desc).map (fun d => d.parameters.length) = some 2 := ⟨rfl, by decide +kernel, by decide +kernel, by decide +kernel⟩
def mX2_item : MI := (yX2_item, cX2_item, 4, (some .int))
theorem vm_X2_item : mX2_item.1.cls = RX2 ∧ mX2_item.1.cls ≠ "java/lang/invoke/MethodHandle" ∧ mX2_item.1.cls ≠ "java/lang/invoke/VarHandle" ∧ (parseMethodDescriptor mX2_item.1.desc).map (fun d => d.parameters.length) = some 3 := ⟨rfl, by decide +kernel, by decide +kernel, by decide +kernel⟩
def mX2_itemCount : MI := (yX2_itemCount, cX2_itemCount, 2, (some .int))
theorem vm_X2_itemCount : mX2_itemCount.1.cls = RX2 ∧ mX2_itemCount.1.cls ≠ "java/lang/invoke/MethodHandle" ∧ mX2_itemCount.1.cls ≠ "java/lang/invoke/VarHandle" ∧ (parseMethodDescriptor mX2_itemCount.1.desc).map (fun d => d.parameters.length) = some 1 := ⟨rfl, by decide +kernel, by decide +kernel, by decide +kernel⟩
def mX2_leg : MI := (yX2_leg, cX2_leg, 3, (some .int))
theorem vm_X2_leg : mX2_leg.1.cls = RX2 ∧ mX2_leg.1.cls ≠ "java/lang/invoke/MethodHandle" ∧ mX2_leg.1.cls ≠ "java/lang/invoke/VarHandle" ∧ (parseMethodDescriptor mX2_leg.1.desc).map (fun d => d.parameters.length) = some 2 := ⟨rfl, by decide +kernel, by decide +kernel, by decide +kernel⟩
def mX2_legAt : MI := (yX2_legAt, cX2_legAt, 2, (some .int))
theorem vm_X2_legAt : mX2_legAt.1.cls = RX2 ∧ mX2_legAt.1.cls ≠ "java/lang/invoke/MethodHandle" ∧ mX2_legAt.1.cls ≠ "java/lang/invoke/VarHandle" ∧ (parseMethodDescriptor mX2_legAt.1.desc).map (fun d => d.parameters.length) = some 1 := ⟨rfl, by decide +kernel, by decide +kernel, by decide +kernel⟩
def mX2_legCount : MI := (yX2_legCount, cX2_legCount, 1, (some .int))
theorem vm_X2_legCount : mX2_legCount.1.cls = RX2 ∧ mX2_legCount.1.cls ≠ "java/lang/invoke/MethodHandle" ∧ mX2_legCount.1.cls ≠ "java/lang/invoke/VarHandle" ∧ (parseMethodDescriptor mX2_legCount.1.desc).map (fun d => d.parameters.length) = some 0 := ⟨rfl, by decide +kernel, by decide +kernel, by decide +kernel⟩
def mX2_lengthOf : MI := (yX2_lengthOf, cX2_lengthOf, 2, (some .int))
theorem vm_X2_lengthOf : mX2_lengthOf.1.cls = RX2 ∧ mX2_lengthOf.1.cls ≠ "java/lang/invoke/MethodHandle" ∧ mX2_lengthOf.1.cls ≠ "java/lang/invoke/VarHandle" ∧ (parseMethodDescriptor mX2_lengthOf.1.desc).map (fun d => d.parameters.length) = some 1 := ⟨rfl, by decide +kernel, by decide +kernel, by decide +kernel⟩
def mX2_letter : MI := (yX2_letter, cX2_letter, 4, (some .int))
theorem vm_X2_letter : mX2_letter.1.cls = RX2 ∧ mX2_letter.1.cls ≠ "java/lang/invoke/MethodHandle" ∧ mX2_letter.1.cls ≠ "java/lang/invoke/VarHandle" ∧ (parseMethodDescriptor mX2_letter.1.desc).map (fun d => d.parameters.length) = some 2 := ⟨rfl, by decide +kernel, by decide +kernel, by decide +kernel⟩
def mX2_minutes : MI := (yX2_minutes, cX2_minutes, 2, (some .int))
theorem vm_X2_minutes : mX2_minutes.1.cls = RX2 ∧ mX2_minutes.1.cls ≠ "java/lang/invoke/MethodHandle" ∧ mX2_minutes.1.cls ≠ "java/lang/invoke/VarHandle" ∧ (parseMethodDescriptor mX2_minutes.1.desc).map (fun d => d.parameters.length) = some 1 := ⟨rfl, by decide +kernel, by decide +kernel, by decide +kernel⟩
def mX2_minutesOf : MI := (yX2_minutesOf, cX2_minutesOf, 2, (some .int))
theorem vm_X2_minutesOf : mX2_minutesOf.1.cls = RX2 ∧ mX2_minutesOf.1.cls ≠ "java/lang/invoke/MethodHandle" ∧ mX2_minutesOf.1.cls ≠ "java/lang/invoke/VarHandle" ∧ (parseMethodDescriptor mX2_minutesOf.1.desc).map (fun d => d.parameters.length) = some 1 := ⟨rfl, by decide +kernel, by decide +kernel, by decide +kernel⟩
def mX2_of : MI := (yX2_of, cX2_of, 3, (some .int))
theorem vm_X2_of : mX2_of.1.cls = RX2 ∧ mX2_of.1.cls ≠ "java/lang/invoke/MethodHandle" ∧ mX2_of.1.cls ≠ "java/lang/invoke/VarHandle" ∧ (parseMethodDescriptor mX2_of.1.desc).map (fun d => d.parameters.length) = some 2 := ⟨rfl, by decide +kernel, by decide +kernel, by decide +kernel⟩
def mX2_ofCrew : MI := (yX2_ofCrew, cX2_ofCrew, 3, (some .int))
theorem vm_X2_ofCrew : mX2_ofCrew.1.cls = RX2 ∧ mX2_ofCrew.1.cls ≠ "java/lang/invoke/MethodHandle" ∧ mX2_ofCrew.1.cls ≠ "java/lang/invoke/VarHandle" ∧ (parseMethodDescriptor mX2_ofCrew.1.desc).map (fun d => d.parameters.length) = some 2 := ⟨rfl, by decide +kernel, by decide +kernel, by decide +kernel⟩
def mX2_offer : MI := (yX2_offer, cX2_offer, 3, (some .int))
theorem vm_X2_offer : mX2_offer.1.cls = RX2 ∧ mX2_offer.1.cls ≠ "java/lang/invoke/MethodHandle" ∧ mX2_offer.1.cls ≠ "java/lang/invoke/VarHandle" ∧ (parseMethodDescriptor mX2_offer.1.desc).map (fun d => d.parameters.length) = some 2 := ⟨rfl, by decide +kernel, by decide +kernel, by decide +kernel⟩
def mX2_open : MI := (yX2_open, cX2_open, 2, (some .int))
theorem vm_X2_open : mX2_open.1.cls = RX2 ∧ mX2_open.1.cls ≠ "java/lang/invoke/MethodHandle" ∧ mX2_open.1.cls ≠ "java/lang/invoke/VarHandle" ∧ (parseMethodDescriptor mX2_open.1.desc).map (fun d => d.parameters.length) = some 1 := ⟨rfl, by decide +kernel, by decide +kernel, by decide +kernel⟩
def mX2_openCount : MI := (yX2_openCount, cX2_openCount, 1, (some .int))
theorem vm_X2_openCount : mX2_openCount.1.cls = RX2 ∧ mX2_openCount.1.cls ≠ "java/lang/invoke/MethodHandle" ∧ mX2_openCount.1.cls ≠ "java/lang/invoke/VarHandle" ∧ (parseMethodDescriptor mX2_openCount.1.desc).map (fun d => d.parameters.length) = some 0 := ⟨rfl, by decide +kernel, by decide +kernel, by decide +kernel⟩
def mX2_pair : MI := (yX2_pair, cX2_pair, 5, (some .int))
theorem vm_X2_pair : mX2_pair.1.cls = RX2 ∧ mX2_pair.1.cls ≠ "java/lang/invoke/MethodHandle" ∧ mX2_pair.1.cls ≠ "java/lang/invoke/VarHandle" ∧ (parseMethodDescriptor mX2_pair.1.desc).map (fun d => d.parameters.length) = some 0 := ⟨rfl, by decide +kernel, by decide +kernel, by decide +kernel⟩
def mX2_pairings : MI := (yX2_pairings, cX2_pairings, 4, (some .int))
theorem vm_X2_pairings : mX2_pairings.1.cls = RX2 ∧ mX2_pairings.1.cls ≠ "java/lang/invoke/MethodHandle" ∧ mX2_pairings.1.cls ≠ "java/lang/invoke/VarHandle" ∧ (parseMethodDescriptor mX2_pairings.1.desc).map (fun d => d.parameters.length) = some 1 := ⟨rfl, by decide +kernel, by decide +kernel, by decide +kernel⟩
def mX2_perform : MI := (yX2_perform, cX2_perform, 4, (some .int))
theorem vm_X2_perform : mX2_perform.1.cls = RX2 ∧ mX2_perform.1.cls ≠ "java/lang/invoke/MethodHandle" ∧ mX2_perform.1.cls ≠ "java/lang/invoke/VarHandle" ∧ (parseMethodDescriptor mX2_perform.1.desc).map (fun d => d.parameters.length) = some 1 := ⟨rfl, by decide +kernel, by decide +kernel, by decide +kernel⟩
def mX2_place : MI := (yX2_place, cX2_place, 5, (some .int))
theorem vm_X2_place : mX2_place.1.cls = RX2 ∧ mX2_place.1.cls ≠ "java/lang/invoke/MethodHandle" ∧ mX2_place.1.cls ≠ "java/lang/invoke/VarHandle" ∧ (parseMethodDescriptor mX2_place.1.desc).map (fun d => d.parameters.length) = some 3 := ⟨rfl, by decide +kernel, by decide +kernel, by decide +kernel⟩
def mX2_placeIn : MI := (yX2_placeIn, cX2_placeIn, 4, (some .int))
theorem vm_X2_placeIn : mX2_placeIn.1.cls = RX2 ∧ mX2_placeIn.1.cls ≠ "java/lang/invoke/MethodHandle" ∧ mX2_placeIn.1.cls ≠ "java/lang/invoke/VarHandle" ∧ (parseMethodDescriptor mX2_placeIn.1.desc).map (fun d => d.parameters.length) = some 2 := ⟨rfl, by decide +kernel, by decide +kernel, by decide +kernel⟩
def mX2_push : MI := (yX2_push, cX2_push, 2, none)
theorem vm_X2_push : mX2_push.1.cls = RX2 ∧ mX2_push.1.cls ≠ "java/lang/invoke/MethodHandle" ∧ mX2_push.1.cls ≠ "java/lang/invoke/VarHandle" ∧ (parseMethodDescriptor mX2_push.1.desc).map (fun d => d.parameters.length) = some 1 := ⟨rfl, by decide +kernel, by decide +kernel, by decide +kernel⟩
def mX2_put : MI := (yX2_put, cX2_put, 4, (some .int))
theorem vm_X2_put : mX2_put.1.cls = RX2 ∧ mX2_put.1.cls ≠ "java/lang/invoke/MethodHandle" ∧ mX2_put.1.cls ≠ "java/lang/invoke/VarHandle" ∧ (parseMethodDescriptor mX2_put.1.desc).map (fun d => d.parameters.length) = some 2 := ⟨rfl, by decide +kernel, by decide +kernel, by decide +kernel⟩
def mX2_readNumber : MI := (yX2_readNumber, cX2_readNumber, 3, none)
theorem vm_X2_readNumber : mX2_readNumber.1.cls = RX2 ∧ mX2_readNumber.1.cls ≠ "java/lang/invoke/MethodHandle" ∧ mX2_readNumber.1.cls ≠ "java/lang/invoke/VarHandle" ∧ (parseMethodDescriptor mX2_readNumber.1.desc).map (fun d => d.parameters.length) = some 1 := ⟨rfl, by decide +kernel, by decide +kernel, by decide +kernel⟩
def mX2_reason : MI := (yX2_reason, cX2_reason, 4, (some .int))
theorem vm_X2_reason : mX2_reason.1.cls = RX2 ∧ mX2_reason.1.cls ≠ "java/lang/invoke/MethodHandle" ∧ mX2_reason.1.cls ≠ "java/lang/invoke/VarHandle" ∧ (parseMethodDescriptor mX2_reason.1.desc).map (fun d => d.parameters.length) = some 3 := ⟨rfl, by decide +kernel, by decide +kernel, by decide +kernel⟩
def mX2_reorder : MI := (yX2_reorder, cX2_reorder, 6, none)
theorem vm_X2_reorder : mX2_reorder.1.cls = RX2 ∧ mX2_reorder.1.cls ≠ "java/lang/invoke/MethodHandle" ∧ mX2_reorder.1.cls ≠ "java/lang/invoke/VarHandle" ∧ (parseMethodDescriptor mX2_reorder.1.desc).map (fun d => d.parameters.length) = some 1 := ⟨rfl, by decide +kernel, by decide +kernel, by decide +kernel⟩
def mX2_repair : MI := (yX2_repair, cX2_repair, 4, (some .int))
theorem vm_X2_repair : mX2_repair.1.cls = RX2 ∧ mX2_repair.1.cls ≠ "java/lang/invoke/MethodHandle" ∧ mX2_repair.1.cls ≠ "java/lang/invoke/VarHandle" ∧ (parseMethodDescriptor mX2_repair.1.desc).map (fun d => d.parameters.length) = some 0 := ⟨rfl, by decide +kernel, by decide +kernel, by decide +kernel⟩
def mX2_repaired : MI := (yX2_repaired, cX2_repaired, 3, (some .int))
theorem vm_X2_repaired : mX2_repaired.1.cls = RX2 ∧ mX2_repaired.1.cls ≠ "java/lang/invoke/MethodHandle" ∧ mX2_repaired.1.cls ≠ "java/lang/invoke/VarHandle" ∧ (parseMethodDescriptor mX2_repaired.1.desc).map (fun d => d.parameters.length) = some 2 := ⟨rfl, by decide +kernel, by decide +kernel, by decide +kernel⟩
def mX2_reserve : MI := (yX2_reserve, cX2_reserve, 3, (some .int))
theorem vm_X2_reserve : mX2_reserve.1.cls = RX2 ∧ mX2_reserve.1.cls ≠ "java/lang/invoke/MethodHandle" ∧ mX2_reserve.1.cls ≠ "java/lang/invoke/VarHandle" ∧ (parseMethodDescriptor mX2_reserve.1.desc).map (fun d => d.parameters.length) = some 2 := ⟨rfl, by decide +kernel, by decide +kernel, by decide +kernel⟩
def mX2_restore : MI := (yX2_restore, cX2_restore, 1, (some .int))
theorem vm_X2_restore : mX2_restore.1.cls = RX2 ∧ mX2_restore.1.cls ≠ "java/lang/invoke/MethodHandle" ∧ mX2_restore.1.cls ≠ "java/lang/invoke/VarHandle" ∧ (parseMethodDescriptor mX2_restore.1.desc).map (fun d => d.parameters.length) = some 0 := ⟨rfl, by decide +kernel, by decide +kernel, by decide +kernel⟩
def mX2_ride : MI := (yX2_ride, cX2_ride, 3, (some .int))
theorem vm_X2_ride : mX2_ride.1.cls = RX2 ∧ mX2_ride.1.cls ≠ "java/lang/invoke/MethodHandle" ∧ mX2_ride.1.cls ≠ "java/lang/invoke/VarHandle" ∧ (parseMethodDescriptor mX2_ride.1.desc).map (fun d => d.parameters.length) = some 2 := ⟨rfl, by decide +kernel, by decide +kernel, by decide +kernel⟩
def mX2_rule : MI := (yX2_rule, cX2_rule, 2, (some .int))
theorem vm_X2_rule : mX2_rule.1.cls = RX2 ∧ mX2_rule.1.cls ≠ "java/lang/invoke/MethodHandle" ∧ mX2_rule.1.cls ≠ "java/lang/invoke/VarHandle" ∧ (parseMethodDescriptor mX2_rule.1.desc).map (fun d => d.parameters.length) = some 1 := ⟨rfl, by decide +kernel, by decide +kernel, by decide +kernel⟩
def mX2_save : MI := (yX2_save, cX2_save, 1, (some .int))
theorem vm_X2_save : mX2_save.1.cls = RX2 ∧ mX2_save.1.cls ≠ "java/lang/invoke/MethodHandle" ∧ mX2_save.1.cls ≠ "java/lang/invoke/VarHandle" ∧ (parseMethodDescriptor mX2_save.1.desc).map (fun d => d.parameters.length) = some 0 := ⟨rfl, by decide +kernel, by decide +kernel, by decide +kernel⟩
def mX2_search : MI := (yX2_search, cX2_search, 6, none)
theorem vm_X2_search : mX2_search.1.cls = RX2 ∧ mX2_search.1.cls ≠ "java/lang/invoke/MethodHandle" ∧ mX2_search.1.cls ≠ "java/lang/invoke/VarHandle" ∧ (parseMethodDescriptor mX2_search.1.desc).map (fun d => d.parameters.length) = some 3 := ⟨rfl, by decide +kernel, by decide +kernel, by decide +kernel⟩
def mX2_setReserve : MI := (yX2_setReserve, cX2_setReserve, 5, (some .int))
theorem vm_X2_setReserve : mX2_setReserve.1.cls = RX2 ∧ mX2_setReserve.1.cls ≠ "java/lang/invoke/MethodHandle" ∧ mX2_setReserve.1.cls ≠ "java/lang/invoke/VarHandle" ∧ (parseMethodDescriptor mX2_setReserve.1.desc).map (fun d => d.parameters.length) = some 3 := ⟨rfl, by decide +kernel, by decide +kernel, by decide +kernel⟩
def mX2_setRule : MI := (yX2_setRule, cX2_setRule, 4, (some .int))
theorem vm_X2_setRule : mX2_setRule.1.cls = RX2 ∧ mX2_setRule.1.cls ≠ "java/lang/invoke/MethodHandle" ∧ mX2_setRule.1.cls ≠ "java/lang/invoke/VarHandle" ∧ (parseMethodDescriptor mX2_setRule.1.desc).map (fun d => d.parameters.length) = some 2 := ⟨rfl, by decide +kernel, by decide +kernel, by decide +kernel⟩
def mX2_take : MI := (yX2_take, cX2_take, 2, none)
theorem vm_X2_take : mX2_take.1.cls = RX2 ∧ mX2_take.1.cls ≠ "java/lang/invoke/MethodHandle" ∧ mX2_take.1.cls ≠ "java/lang/invoke/VarHandle" ∧ (parseMethodDescriptor mX2_take.1.desc).map (fun d => d.parameters.length) = some 1 := ⟨rfl, by decide +kernel, by decide +kernel, by decide +kernel⟩
def mX2_takeBest : MI := (yX2_takeBest, cX2_takeBest, 4, (some .int))
theorem vm_X2_takeBest : mX2_takeBest.1.cls = RX2 ∧ mX2_takeBest.1.cls ≠ "java/lang/invoke/MethodHandle" ∧ mX2_takeBest.1.cls ≠ "java/lang/invoke/VarHandle" ∧ (parseMethodDescriptor mX2_takeBest.1.desc).map (fun d => d.parameters.length) = some 1 := ⟨rfl, by decide +kernel, by decide +kernel, by decide +kernel⟩
def mX2_takeOut : MI := (yX2_takeOut, cX2_takeOut, 3, none)
theorem vm_X2_takeOut : mX2_takeOut.1.cls = RX2 ∧ mX2_takeOut.1.cls ≠ "java/lang/invoke/MethodHandle" ∧ mX2_takeOut.1.cls ≠ "java/lang/invoke/VarHandle" ∧ (parseMethodDescriptor mX2_takeOut.1.desc).map (fun d => d.parameters.length) = some 1 := ⟨rfl, by decide +kernel, by decide +kernel, by decide +kernel⟩
def mX2_undo : MI := (yX2_undo, cX2_undo, 1, (some .int))
theorem vm_X2_undo : mX2_undo.1.cls = RX2 ∧ mX2_undo.1.cls ≠ "java/lang/invoke/MethodHandle" ∧ mX2_undo.1.cls ≠ "java/lang/invoke/VarHandle" ∧ (parseMethodDescriptor mX2_undo.1.desc).map (fun d => d.parameters.length) = some 0 := ⟨rfl, by decide +kernel, by decide +kernel, by decide +kernel⟩
def mX2_violates : MI := (yX2_violates, cX2_violates, 3, (some .boolean))
theorem vm_X2_violates : mX2_violates.1.cls = RX2 ∧ mX2_violates.1.cls ≠ "java/lang/invoke/MethodHandle" ∧ mX2_violates.1.cls ≠ "java/lang/invoke/VarHandle" ∧ (parseMethodDescriptor mX2_violates.1.desc).map (fun d => d.parameters.length) = some 2 := ⟨rfl, by decide +kernel, by decide +kernel, by decide +kernel⟩
def mX2_violation : MI := (yX2_violation, cX2_violation, 5, (some .int))
theorem vm_X2_violation : mX2_violation.1.cls = RX2 ∧ mX2_violation.1.cls ≠ "java/lang/invoke/MethodHandle" ∧ mX2_violation.1.cls ≠ "java/lang/invoke/VarHandle" ∧ (parseMethodDescriptor mX2_violation.1.desc).map (fun d => d.parameters.length) = some 3 := ⟨rfl, by decide +kernel, by decide +kernel, by decide +kernel⟩
def mX2_violationAt : MI := (yX2_violationAt, cX2_violationAt, 5, (some .int))
theorem vm_X2_violationAt : mX2_violationAt.1.cls = RX2 ∧ mX2_violationAt.1.cls ≠ "java/lang/invoke/MethodHandle" ∧ mX2_violationAt.1.cls ≠ "java/lang/invoke/VarHandle" ∧ (parseMethodDescriptor mX2_violationAt.1.desc).map (fun d => d.parameters.length) = some 1 := ⟨rfl, by decide +kernel, by decide +kernel, by decide +kernel⟩
def mX2_violationCount : MI := (yX2_violationCount, cX2_violationCount, 2, (some .int))
theorem vm_X2_violationCount : mX2_violationCount.1.cls = RX2 ∧ mX2_violationCount.1.cls ≠ "java/lang/invoke/MethodHandle" ∧ mX2_violationCount.1.cls ≠ "java/lang/invoke/VarHandle" ∧ (parseMethodDescriptor mX2_violationCount.1.desc).map (fun d => d.parameters.length) = some 1 := ⟨rfl, by decide +kernel, by decide +kernel, by decide +kernel⟩
def mX2_violations : MI := (yX2_violations, cX2_violations, 2, (some .int))
theorem vm_X2_violations : mX2_violations.1.cls = RX2 ∧ mX2_violations.1.cls ≠ "java/lang/invoke/MethodHandle" ∧ mX2_violations.1.cls ≠ "java/lang/invoke/VarHandle" ∧ (parseMethodDescriptor mX2_violations.1.desc).map (fun d => d.parameters.length) = some 0 := ⟨rfl, by decide +kernel, by decide +kernel, by decide +kernel⟩
def mX2_within : MI := (yX2_within, cX2_within, 4, (some .int))
theorem vm_X2_within : mX2_within.1.cls = RX2 ∧ mX2_within.1.cls ≠ "java/lang/invoke/MethodHandle" ∧ mX2_within.1.cls ≠ "java/lang/invoke/VarHandle" ∧ (parseMethodDescriptor mX2_within.1.desc).map (fun d => d.parameters.length) = some 3 := ⟨rfl, by decide +kernel, by decide +kernel, by decide +kernel⟩
def mX2_wordOf : MI := (yX2_wordOf, cX2_wordOf, 5, (some .int))
theorem vm_X2_wordOf : mX2_wordOf.1.cls = RX2 ∧ mX2_wordOf.1.cls ≠ "java/lang/invoke/MethodHandle" ∧ mX2_wordOf.1.cls ≠ "java/lang/invoke/VarHandle" ∧ (parseMethodDescriptor mX2_wordOf.1.desc).map (fun d => d.parameters.length) = some 1 := ⟨rfl, by decide +kernel, by decide +kernel, by decide +kernel⟩
def mX2_write : MI := (yX2_write, cX2_write, 2, none)
theorem vm_X2_write : mX2_write.1.cls = RX2 ∧ mX2_write.1.cls ≠ "java/lang/invoke/MethodHandle" ∧ mX2_write.1.cls ≠ "java/lang/invoke/VarHandle" ∧ (parseMethodDescriptor mX2_write.1.desc).map (fun d => d.parameters.length) = some 1 := ⟨rfl, by decide +kernel, by decide +kernel, by decide +kernel⟩
def mX2_writeItem : MI := (yX2_writeItem, cX2_writeItem, 5, none)
theorem vm_X2_writeItem : mX2_writeItem.1.cls = RX2 ∧ mX2_writeItem.1.cls ≠ "java/lang/invoke/MethodHandle" ∧ mX2_writeItem.1.cls ≠ "java/lang/invoke/VarHandle" ∧ (parseMethodDescriptor mX2_writeItem.1.desc).map (fun d => d.parameters.length) = some 1 := ⟨rfl, by decide +kernel, by decide +kernel, by decide +kernel⟩
def mX2_writeTime : MI := (yX2_writeTime, cX2_writeTime, 2, none)
theorem vm_X2_writeTime : mX2_writeTime.1.cls = RX2 ∧ mX2_writeTime.1.cls ≠ "java/lang/invoke/MethodHandle" ∧ mX2_writeTime.1.cls ≠ "java/lang/invoke/VarHandle" ∧ (parseMethodDescriptor mX2_writeTime.1.desc).map (fun d => d.parameters.length) = some 1 := ⟨rfl, by decide +kernel, by decide +kernel, by decide +kernel⟩
def mX2_writeTwo : MI := (yX2_writeTwo, cX2_writeTwo, 2, none)
theorem vm_X2_writeTwo : mX2_writeTwo.1.cls = RX2 ∧ mX2_writeTwo.1.cls ≠ "java/lang/invoke/MethodHandle" ∧ mX2_writeTwo.1.cls ≠ "java/lang/invoke/VarHandle" ∧ (parseMethodDescriptor mX2_writeTwo.1.desc).map (fun d => d.parameters.length) = some 1 := ⟨rfl, by decide +kernel, by decide +kernel, by decide +kernel⟩
def mX3_equals : MI := (yX3_equals, cX3_equals, 3, (some .boolean))
theorem vm_X3_equals : mX3_equals.1.cls = RX3 ∧ mX3_equals.1.cls ≠ "java/lang/invoke/MethodHandle" ∧ mX3_equals.1.cls ≠ "java/lang/invoke/VarHandle" ∧ (parseMethodDescriptor mX3_equals.1.desc).map (fun d => d.parameters.length) = some 1 := ⟨rfl, by decide +kernel, by decide +kernel, by decide +kernel⟩
def mX3_hashCode : MI := (yX3_hashCode, cX3_hashCode, 1, (some .int))
theorem vm_X3_hashCode : mX3_hashCode.1.cls = RX3 ∧ mX3_hashCode.1.cls ≠ "java/lang/invoke/MethodHandle" ∧ mX3_hashCode.1.cls ≠ "java/lang/invoke/VarHandle" ∧ (parseMethodDescriptor mX3_hashCode.1.desc).map (fun d => d.parameters.length) = some 0 := ⟨rfl, by decide +kernel, by decide +kernel, by decide +kernel⟩
def mX3_init : MI := (yX3_init, cX3_init, 4, none)
theorem vm_X3_init : mX3_init.1.cls = RX3 ∧ mX3_init.1.cls ≠ "java/lang/invoke/MethodHandle" ∧ mX3_init.1.cls ≠ "java/lang/invoke/VarHandle" ∧ (parseMethodDescriptor mX3_init.1.desc).map (fun d => d.parameters.length) = some 3 := ⟨rfl, by decide +kernel, by decide +kernel, by decide +kernel⟩
def mX4_arrival : MI := (yX4_arrival, cX4_arrival, 1, (some .int))
theorem vm_X4_arrival : mX4_arrival.1.cls = RX4 ∧ mX4_arrival.1.cls ≠ "java/lang/invoke/MethodHandle" ∧ mX4_arrival.1.cls ≠ "java/lang/invoke/VarHandle" ∧ (parseMethodDescriptor mX4_arrival.1.desc).map (fun d => d.parameters.length) = some 0 := ⟨rfl, by decide +kernel, by decide +kernel, by decide +kernel⟩
def mX4_copy : MI := (yX4_copy, cX4_copy, 2, (some (.object "CrewPairer$Leg")))
theorem vm_X4_copy : mX4_copy.1.cls = RX4 ∧ mX4_copy.1.cls ≠ "java/lang/invoke/MethodHandle" ∧ mX4_copy.1.cls ≠ "java/lang/invoke/VarHandle" ∧ (parseMethodDescriptor mX4_copy.1.desc).map (fun d => d.parameters.length) = some 0 := ⟨rfl, by decide +kernel, by decide +kernel, by decide +kernel⟩
def mX4_departure : MI := (yX4_departure, cX4_departure, 1, (some .int))
theorem vm_X4_departure : mX4_departure.1.cls = RX4 ∧ mX4_departure.1.cls ≠ "java/lang/invoke/MethodHandle" ∧ mX4_departure.1.cls ≠ "java/lang/invoke/VarHandle" ∧ (parseMethodDescriptor mX4_departure.1.desc).map (fun d => d.parameters.length) = some 0 := ⟨rfl, by decide +kernel, by decide +kernel, by decide +kernel⟩
def mX4_init : MI := (yX4_init, cX4_init, 5, none)
theorem vm_X4_init : mX4_init.1.cls = RX4 ∧ mX4_init.1.cls ≠ "java/lang/invoke/MethodHandle" ∧ mX4_init.1.cls ≠ "java/lang/invoke/VarHandle" ∧ (parseMethodDescriptor mX4_init.1.desc).map (fun d => d.parameters.length) = some 4 := ⟨rfl, by decide +kernel, by decide +kernel, by decide +kernel⟩
def mX4_way : MI := (yX4_way, cX4_way, 1, (some (.object "java/lang/String")))
theorem vm_X4_way : mX4_way.1.cls = RX4 ∧ mX4_way.1.cls ≠ "java/lang/invoke/MethodHandle" ∧ mX4_way.1.cls ≠ "java/lang/invoke/VarHandle" ∧ (parseMethodDescriptor mX4_way.1.desc).map (fun d => d.parameters.length) = some 0 := ⟨rfl, by decide +kernel, by decide +kernel, by decide +kernel⟩
def mX5_copy : MI := (yX5_copy, cX5_copy, 2, (some (.object "CrewPairer$Crew")))
theorem vm_X5_copy : mX5_copy.1.cls = RX5 ∧ mX5_copy.1.cls ≠ "java/lang/invoke/MethodHandle" ∧ mX5_copy.1.cls ≠ "java/lang/invoke/VarHandle" ∧ (parseMethodDescriptor mX5_copy.1.desc).map (fun d => d.parameters.length) = some 0 := ⟨rfl, by decide +kernel, by decide +kernel, by decide +kernel⟩
def mX5_find : MI := (yX5_find, cX5_find, 3, (some .int))
theorem vm_X5_find : mX5_find.1.cls = RX5 ∧ mX5_find.1.cls ≠ "java/lang/invoke/MethodHandle" ∧ mX5_find.1.cls ≠ "java/lang/invoke/VarHandle" ∧ (parseMethodDescriptor mX5_find.1.desc).map (fun d => d.parameters.length) = some 1 := ⟨rfl, by decide +kernel, by decide +kernel, by decide +kernel⟩
def mX5_init : MI := (yX5_init, cX5_init, 2, none)
theorem vm_X5_init : mX5_init.1.cls = RX5 ∧ mX5_init.1.cls ≠ "java/lang/invoke/MethodHandle" ∧ mX5_init.1.cls ≠ "java/lang/invoke/VarHandle" ∧ (parseMethodDescriptor mX5_init.1.desc).map (fun d => d.parameters.length) = some 1 := ⟨rfl, by decide +kernel, by decide +kernel, by decide +kernel⟩
def mX5_isReserve : MI := (yX5_isReserve, cX5_isReserve, 1, (some .boolean))
theorem vm_X5_isReserve : mX5_isReserve.1.cls = RX5 ∧ mX5_isReserve.1.cls ≠ "java/lang/invoke/MethodHandle" ∧ mX5_isReserve.1.cls ≠ "java/lang/invoke/VarHandle" ∧ (parseMethodDescriptor mX5_isReserve.1.desc).map (fun d => d.parameters.length) = some 0 := ⟨rfl, by decide +kernel, by decide +kernel, by decide +kernel⟩
def mX5_removeAt : MI := (yX5_removeAt, cX5_removeAt, 2, none)
theorem vm_X5_removeAt : mX5_removeAt.1.cls = RX5 ∧ mX5_removeAt.1.cls ≠ "java/lang/invoke/MethodHandle" ∧ mX5_removeAt.1.cls ≠ "java/lang/invoke/VarHandle" ∧ (parseMethodDescriptor mX5_removeAt.1.desc).map (fun d => d.parameters.length) = some 1 := ⟨rfl, by decide +kernel, by decide +kernel, by decide +kernel⟩
def mX6_init : MI := (yX6_init, cX6_init, 1, none)
theorem vm_X6_init : mX6_init.1.cls = RX6 ∧ mX6_init.1.cls ≠ "java/lang/invoke/MethodHandle" ∧ mX6_init.1.cls ≠ "java/lang/invoke/VarHandle" ∧ (parseMethodDescriptor mX6_init.1.desc).map (fun d => d.parameters.length) = some 0 := ⟨rfl, by decide +kernel, by decide +kernel, by decide +kernel⟩
def mX6_isCheaper : MI := (yX6_isCheaper, cX6_isCheaper, 2, (some .boolean))
theorem vm_X6_isCheaper : mX6_isCheaper.1.cls = RX6 ∧ mX6_isCheaper.1.cls ≠ "java/lang/invoke/MethodHandle" ∧ mX6_isCheaper.1.cls ≠ "java/lang/invoke/VarHandle" ∧ (parseMethodDescriptor mX6_isCheaper.1.desc).map (fun d => d.parameters.length) = some 2 := ⟨rfl, by decide +kernel, by decide +kernel, by decide +kernel⟩
def mX6_see : MI := (yX6_see, cX6_see, 2, none)
theorem vm_X6_see : mX6_see.1.cls = RX6 ∧ mX6_see.1.cls ≠ "java/lang/invoke/MethodHandle" ∧ mX6_see.1.cls ≠ "java/lang/invoke/VarHandle" ∧ (parseMethodDescriptor mX6_see.1.desc).map (fun d => d.parameters.length) = some 1 := ⟨rfl, by decide +kernel, by decide +kernel, by decide +kernel⟩
def mX6_seeAll : MI := (yX6_seeAll, cX6_seeAll, 3, none)
theorem vm_X6_seeAll : mX6_seeAll.1.cls = RX6 ∧ mX6_seeAll.1.cls ≠ "java/lang/invoke/MethodHandle" ∧ mX6_seeAll.1.cls ≠ "java/lang/invoke/VarHandle" ∧ (parseMethodDescriptor mX6_seeAll.1.desc).map (fun d => d.parameters.length) = some 1 := ⟨rfl, by decide +kernel, by decide +kernel, by decide +kernel⟩
def mX7_init : MI := (yX7_init, cX7_init, 5, none)
theorem vm_X7_init : mX7_init.1.cls = RX7 ∧ mX7_init.1.cls ≠ "java/lang/invoke/MethodHandle" ∧ mX7_init.1.cls ≠ "java/lang/invoke/VarHandle" ∧ (parseMethodDescriptor mX7_init.1.desc).map (fun d => d.parameters.length) = some 4 := ⟨rfl, by decide +kernel, by decide +kernel, by decide +kernel⟩
def mX7_minutes : MI := (yX7_minutes, cX7_minutes, 1, (some .int))
theorem vm_X7_minutes : mX7_minutes.1.cls = RX7 ∧ mX7_minutes.1.cls ≠ "java/lang/invoke/MethodHandle" ∧ mX7_minutes.1.cls ≠ "java/lang/invoke/VarHandle" ∧ (parseMethodDescriptor mX7_minutes.1.desc).map (fun d => d.parameters.length) = some 0 := ⟨rfl, by decide +kernel, by decide +kernel, by decide +kernel⟩
def mX7_price : MI := (yX7_price, cX7_price, 1, (some .int))
theorem vm_X7_price : mX7_price.1.cls = RX7 ∧ mX7_price.1.cls ≠ "java/lang/invoke/MethodHandle" ∧ mX7_price.1.cls ≠ "java/lang/invoke/VarHandle" ∧ (parseMethodDescriptor mX7_price.1.desc).map (fun d => d.parameters.length) = some 0 := ⟨rfl, by decide +kernel, by decide +kernel, by decide +kernel⟩
def mX8_clock : MI := (yX8_clock, cX8_clock, 1, (some (.object "java/lang/String")))
theorem vm_X8_clock : mX8_clock.1.cls = RX8 ∧ mX8_clock.1.cls ≠ "java/lang/invoke/MethodHandle" ∧ mX8_clock.1.cls ≠ "java/lang/invoke/VarHandle" ∧ (parseMethodDescriptor mX8_clock.1.desc).map (fun d => d.parameters.length) = some 1 := ⟨rfl, by decide +kernel, by decide +kernel, by decide +kernel⟩
def mX8_length : MI := (yX8_length, cX8_length, 1, (some .int))
theorem vm_X8_length : mX8_length.1.cls = RX8 ∧ mX8_length.1.cls ≠ "java/lang/invoke/MethodHandle" ∧ mX8_length.1.cls ≠ "java/lang/invoke/VarHandle" ∧ (parseMethodDescriptor mX8_length.1.desc).map (fun d => d.parameters.length) = some 0 := ⟨rfl, by decide +kernel, by decide +kernel, by decide +kernel⟩
def mX8_text : MI := (yX8_text, cX8_text, 2, (some (.object "java/lang/CharSequence")))
theorem vm_X8_text : mX8_text.1.cls = RX8 ∧ mX8_text.1.cls ≠ "java/lang/invoke/MethodHandle" ∧ mX8_text.1.cls ≠ "java/lang/invoke/VarHandle" ∧ (parseMethodDescriptor mX8_text.1.desc).map (fun d => d.parameters.length) = some 1 := ⟨rfl, by decide +kernel, by decide +kernel, by decide +kernel⟩
def mX8_twoDigits : MI := (yX8_twoDigits, cX8_twoDigits, 1, (some (.object "java/lang/String")))
theorem vm_X8_twoDigits : mX8_twoDigits.1.cls = RX8 ∧ mX8_twoDigits.1.cls ≠ "java/lang/invoke/MethodHandle" ∧ mX8_twoDigits.1.cls ≠ "java/lang/invoke/VarHandle" ∧ (parseMethodDescriptor mX8_twoDigits.1.desc).map (fun d => d.parameters.length) = some 1 := ⟨rfl, by decide +kernel, by decide +kernel, by decide +kernel⟩
def mX8_within : MI := (yX8_within, cX8_within, 3, (some .int))
theorem vm_X8_within : mX8_within.1.cls = RX8 ∧ mX8_within.1.cls ≠ "java/lang/invoke/MethodHandle" ∧ mX8_within.1.cls ≠ "java/lang/invoke/VarHandle" ∧ (parseMethodDescriptor mX8_within.1.desc).map (fun d => d.parameters.length) = some 2 := ⟨rfl, by decide +kernel, by decide +kernel, by decide +kernel⟩
def mX9_init : MI := (yX9_init, cX9_init, 2, none)
theorem vm_X9_init : mX9_init.1.cls = RX9 ∧ mX9_init.1.cls ≠ "java/lang/invoke/MethodHandle" ∧ mX9_init.1.cls ≠ "java/lang/invoke/VarHandle" ∧ (parseMethodDescriptor mX9_init.1.desc).map (fun d => d.parameters.length) = some 1 := ⟨rfl, by decide +kernel, by decide +kernel, by decide +kernel⟩
theorem nd_X0 : ∀ k, k < 25 → defaultValue (tyX0 k) = gfv (gcty 0 k) 0 none 0 := fun k _ => by show defaultValue (tyX0 k) = gfv (tyX0 k) 0 none 0; unfold tyX0; first | rfl | (split <;> rfl)
theorem nd_X2 : ∀ k, k < 30 → defaultValue (tyX2 k) = gfv (gcty 1 k) 0 none 0 := fun k _ => by show defaultValue (tyX2 k) = gfv (tyX2 k) 0 none 0; unfold tyX2; first | rfl | (split <;> rfl)
theorem nd_X1 : ∀ k, k < 3 → defaultValue (tyX1 k) = gfv (gcty 2 k) 0 none 0 := fun k _ => by show defaultValue (tyX1 k) = gfv (tyX1 k) 0 none 0; unfold tyX1; first | rfl | (split <;> rfl)
theorem nd_X4 : ∀ k, k < 5 → defaultValue (tyX4 k) = gfv (gcty 3 k) 0 none 0 := fun k _ => by show defaultValue (tyX4 k) = gfv (tyX4 k) 0 none 0; unfold tyX4; first | rfl | (split <;> rfl)
theorem nd_X5 : ∀ k, k < 6 → defaultValue (tyX5 k) = gfv (gcty 4 k) 0 none 0 := fun k _ => by show defaultValue (tyX5 k) = gfv (tyX5 k) 0 none 0; unfold tyX5; first | rfl | (split <;> rfl)
theorem nd_X3 : ∀ k, k < 3 → defaultValue (tyX3 k) = gfv (gcty 5 k) 0 none 0 := fun k _ => by show defaultValue (tyX3 k) = gfv (tyX3 k) 0 none 0; unfold tyX3; first | rfl | (split <;> rfl)
theorem nd_X7 : ∀ k, k < 4 → defaultValue (tyX7 k) = gfv (gcty 6 k) 0 none 0 := fun k _ => by show defaultValue (tyX7 k) = gfv (tyX7 k) 0 none 0; unfold tyX7; first | rfl | (split <;> rfl)
theorem nd_X6 : ∀ k, k < 1 → defaultValue (tyX6 k) = gfv (gcty 7 k) 0 none 0 := fun k _ => by show defaultValue (tyX6 k) = gfv (tyX6 k) 0 none 0; unfold tyX6; first | rfl | (split <;> rfl)
theorem nd_X9 : ∀ k, k < 7 → defaultValue (tyX9 k) = gfv (gcty 8 k) 0 none 0 := fun k _ => by show defaultValue (tyX9 k) = gfv (tyX9 k) 0 none 0; unfold tyX9; first | rfl | (split <;> rfl)
theorem nd_J2 : ∀ k, k < 3 → defaultValue (tyJ2 k) = gfv (gcty 9 k) 0 none 0 := fun k _ => by show defaultValue (tyJ2 k) = gfv (tyJ2 k) 0 none 0; unfold tyJ2; first | rfl | (split <;> rfl)
theorem nd_J9 : ∀ k, k < 1 → defaultValue (tyJ9 k) = gfv (gcty 10 k) 0 none 0 := fun k _ => by show defaultValue (tyJ9 k) = gfv (tyJ9 k) 0 none 0; unfold tyJ9; first | rfl | (split <;> rfl)
theorem nd_J11 : ∀ k, k < 8 → defaultValue (tyJ11 k) = gfv (gcty 11 k) 0 none 0 := fun k _ => by show defaultValue (tyJ11 k) = gfv (tyJ11 k) 0 none 0; unfold tyJ11; first | rfl | (split <;> rfl)
theorem nd_J16 : ∀ k, k < 4 → defaultValue (tyJ16 k) = gfv (gcty 12 k) 0 none 0 := fun k _ => by show defaultValue (tyJ16 k) = gfv (tyJ16 k) 0 none 0; unfold tyJ16; first | rfl | (split <;> rfl)
theorem nd_J21 : ∀ k, k < 11 → defaultValue (tyJ21 k) = gfv (gcty 13 k) 0 none 0 := fun k _ => by show defaultValue (tyJ21 k) = gfv (tyJ21 k) 0 none 0; unfold tyJ21; first | rfl | (split <;> rfl)
theorem nd_J4 : ∀ k, k < 4 → defaultValue (tyJ4 k) = gfv (gcty 14 k) 0 none 0 := fun k _ => by show defaultValue (tyJ4 k) = gfv (tyJ4 k) 0 none 0; unfold tyJ4; first | rfl | (split <;> rfl)
theorem nd_J5 : ∀ k, k < 4 → defaultValue (tyJ5 k) = gfv (gcty 15 k) 0 none 0 := fun k _ => by show defaultValue (tyJ5 k) = gfv (tyJ5 k) 0 none 0; unfold tyJ5; first | rfl | (split <;> rfl)
