set_option maxRecDepth 100000
theorem md_J0_init : md_ok yJ0_init.cls yJ0_init.desc 0 := ⟨by decide, by decide, by decide +kernel⟩
theorem md_J0_isEmpty : md_ok yJ0_isEmpty.cls yJ0_isEmpty.desc 0 := ⟨by decide, by decide, by decide +kernel⟩
theorem md_J11_init : md_ok yJ11_init.cls yJ11_init.desc 1 := ⟨by decide, by decide, by decide +kernel⟩
theorem md_J11_iterator : md_ok yJ11_iterator.cls yJ11_iterator.desc 0 := ⟨by decide, by decide, by decide +kernel⟩
theorem md_J11_size : md_ok yJ11_size.cls yJ11_size.desc 0 := ⟨by decide, by decide, by decide +kernel⟩
theorem md_J13_addFirst : md_ok yJ13_addFirst.cls yJ13_addFirst.desc 1 := ⟨by decide, by decide, by decide +kernel⟩
theorem md_J13_dec : md_ok yJ13_dec.cls yJ13_dec.desc 2 := ⟨by decide, by decide, by decide +kernel⟩
theorem md_J13_elementAt : md_ok yJ13_elementAt.cls yJ13_elementAt.desc 2 := ⟨by decide, by decide, by decide +kernel⟩
theorem md_J13_grow : md_ok yJ13_grow.cls yJ13_grow.desc 1 := ⟨by decide, by decide, by decide +kernel⟩
theorem md_J13_inc : md_ok yJ13_inc.cls yJ13_inc.desc 2 := ⟨by decide, by decide, by decide +kernel⟩
theorem md_J13_init : md_ok yJ13_init.cls yJ13_init.desc 0 := ⟨by decide, by decide, by decide +kernel⟩
theorem md_J13_isEmpty : md_ok yJ13_isEmpty.cls yJ13_isEmpty.desc 0 := ⟨by decide, by decide, by decide +kernel⟩
theorem md_J13_newCapacity : md_ok yJ13_newCapacity.cls yJ13_newCapacity.desc 2 := ⟨by decide, by decide, by decide +kernel⟩
theorem md_J13_pollFirst : md_ok yJ13_pollFirst.cls yJ13_pollFirst.desc 0 := ⟨by decide, by decide, by decide +kernel⟩
theorem md_J13_pop : md_ok yJ13_pop.cls yJ13_pop.desc 0 := ⟨by decide, by decide, by decide +kernel⟩
theorem md_J13_push : md_ok yJ13_push.cls yJ13_push.desc 1 := ⟨by decide, by decide, by decide +kernel⟩
theorem md_J13_removeFirst : md_ok yJ13_removeFirst.cls yJ13_removeFirst.desc 0 := ⟨by decide, by decide, by decide +kernel⟩
theorem md_J14_checkForComodification : md_ok yJ14_checkForComodification.cls yJ14_checkForComodification.desc 0 := ⟨by decide, by decide, by decide +kernel⟩
theorem md_J14_hasNext : md_ok yJ14_hasNext.cls yJ14_hasNext.desc 0 := ⟨by decide, by decide, by decide +kernel⟩
theorem md_J14_init : md_ok yJ14_init.cls yJ14_init.desc 1 := ⟨by decide, by decide, by decide +kernel⟩
theorem md_J14_next : md_ok yJ14_next.cls yJ14_next.desc 0 := ⟨by decide, by decide, by decide +kernel⟩
theorem md_J14_remove : md_ok yJ14_remove.cls yJ14_remove.desc 0 := ⟨by decide, by decide, by decide +kernel⟩
theorem md_J15_hasNext : md_ok yJ15_hasNext.cls yJ15_hasNext.desc 0 := ⟨by decide, by decide, by decide +kernel⟩
theorem md_J15_init : md_ok yJ15_init.cls yJ15_init.desc 2 := ⟨by decide, by decide, by decide +kernel⟩
theorem md_J15_next : md_ok yJ15_next.cls yJ15_next.desc 0 := ⟨by decide, by decide, by decide +kernel⟩
theorem md_J16_listFromTrustedArray : md_ok yJ16_listFromTrustedArray.cls yJ16_listFromTrustedArray.desc 1 := ⟨by decide, by decide, by decide +kernel⟩
theorem md_J17_init_4 : md_ok yJ17_init_4.cls yJ17_init_4.desc 2 := ⟨by decide, by decide, by decide +kernel⟩
theorem md_J18_init_4 : md_ok yJ18_init_4.cls yJ18_init_4.desc 2 := ⟨by decide, by decide, by decide +kernel⟩
theorem md_J1_addEntry : md_ok yJ1_addEntry.cls yJ1_addEntry.desc 4 := ⟨by decide, by decide, by decide +kernel⟩
theorem md_J1_addEntryToEmptyMap : md_ok yJ1_addEntryToEmptyMap.cls yJ1_addEntryToEmptyMap.desc 2 := ⟨by decide, by decide, by decide +kernel⟩
theorem md_J1_colorOf : md_ok yJ1_colorOf.cls yJ1_colorOf.desc 1 := ⟨by decide, by decide, by decide +kernel⟩
theorem md_J1_compare : md_ok yJ1_compare.cls yJ1_compare.desc 2 := ⟨by decide, by decide, by decide +kernel⟩
theorem md_J1_containsKey : md_ok yJ1_containsKey.cls yJ1_containsKey.desc 1 := ⟨by decide, by decide, by decide +kernel⟩
theorem md_J1_deleteEntry : md_ok yJ1_deleteEntry.cls yJ1_deleteEntry.desc 1 := ⟨by decide, by decide, by decide +kernel⟩
theorem md_J1_fixAfterDeletion : md_ok yJ1_fixAfterDeletion.cls yJ1_fixAfterDeletion.desc 1 := ⟨by decide, by decide, by decide +kernel⟩
theorem md_J1_fixAfterInsertion : md_ok yJ1_fixAfterInsertion.cls yJ1_fixAfterInsertion.desc 1 := ⟨by decide, by decide, by decide +kernel⟩
theorem md_J1_get : md_ok yJ1_get.cls yJ1_get.desc 1 := ⟨by decide, by decide, by decide +kernel⟩
theorem md_J1_getEntry : md_ok yJ1_getEntry.cls yJ1_getEntry.desc 1 := ⟨by decide, by decide, by decide +kernel⟩
theorem md_J1_getFirstEntry : md_ok yJ1_getFirstEntry.cls yJ1_getFirstEntry.desc 0 := ⟨by decide, by decide, by decide +kernel⟩
theorem md_J1_init : md_ok yJ1_init.cls yJ1_init.desc 0 := ⟨by decide, by decide, by decide +kernel⟩
theorem md_J1_keyIterator : md_ok yJ1_keyIterator.cls yJ1_keyIterator.desc 0 := ⟨by decide, by decide, by decide +kernel⟩
theorem md_J1_keySet : md_ok yJ1_keySet.cls yJ1_keySet.desc 0 := ⟨by decide, by decide, by decide +kernel⟩
theorem md_J1_leftOf : md_ok yJ1_leftOf.cls yJ1_leftOf.desc 1 := ⟨by decide, by decide, by decide +kernel⟩
theorem md_J1_navigableKeySet : md_ok yJ1_navigableKeySet.cls yJ1_navigableKeySet.desc 0 := ⟨by decide, by decide, by decide +kernel⟩
theorem md_J1_parentOf : md_ok yJ1_parentOf.cls yJ1_parentOf.desc 1 := ⟨by decide, by decide, by decide +kernel⟩
theorem md_J1_put : md_ok yJ1_put.cls yJ1_put.desc 2 := ⟨by decide, by decide, by decide +kernel⟩
theorem md_J1_put_2 : md_ok yJ1_put_2.cls yJ1_put_2.desc 3 := ⟨by decide, by decide, by decide +kernel⟩
theorem md_J1_remove : md_ok yJ1_remove.cls yJ1_remove.desc 1 := ⟨by decide, by decide, by decide +kernel⟩
theorem md_J1_rightOf : md_ok yJ1_rightOf.cls yJ1_rightOf.desc 1 := ⟨by decide, by decide, by decide +kernel⟩
theorem md_J1_rotateLeft : md_ok yJ1_rotateLeft.cls yJ1_rotateLeft.desc 1 := ⟨by decide, by decide, by decide +kernel⟩
theorem md_J1_rotateRight : md_ok yJ1_rotateRight.cls yJ1_rotateRight.desc 1 := ⟨by decide, by decide, by decide +kernel⟩
theorem md_J1_setColor : md_ok yJ1_setColor.cls yJ1_setColor.desc 2 := ⟨by decide, by decide, by decide +kernel⟩
theorem md_J1_size : md_ok yJ1_size.cls yJ1_size.desc 0 := ⟨by decide, by decide, by decide +kernel⟩
theorem md_J1_successor : md_ok yJ1_successor.cls yJ1_successor.desc 1 := ⟨by decide, by decide, by decide +kernel⟩
theorem md_J1_values : md_ok yJ1_values.cls yJ1_values.desc 0 := ⟨by decide, by decide, by decide +kernel⟩
theorem md_J21_hashCode_2 : md_ok yJ21_hashCode_2.cls yJ21_hashCode_2.desc 4 := ⟨by decide, by decide, by decide +kernel⟩
theorem md_J21_hashCode_4 : md_ok yJ21_hashCode_4.cls yJ21_hashCode_4.desc 4 := ⟨by decide, by decide, by decide +kernel⟩
theorem md_J21_newLength : md_ok yJ21_newLength.cls yJ21_newLength.desc 3 := ⟨by decide, by decide, by decide +kernel⟩
theorem md_J21_signedHashCode : md_ok yJ21_signedHashCode.cls yJ21_signedHashCode.desc 4 := ⟨by decide, by decide, by decide +kernel⟩
theorem md_J21_vectorizedHashCode : md_ok yJ21_vectorizedHashCode.cls yJ21_vectorizedHashCode.desc 5 := ⟨by decide, by decide, by decide +kernel⟩
theorem md_J23_checkLength : md_ok yJ23_checkLength.cls yJ23_checkLength.desc 2 := ⟨by decide, by decide, by decide +kernel⟩
theorem md_J23_copyOf : md_ok yJ23_copyOf.cls yJ23_copyOf.desc 2 := ⟨by decide, by decide, by decide +kernel⟩
theorem md_J23_copyOfRange : md_ok yJ23_copyOfRange.cls yJ23_copyOfRange.desc 3 := ⟨by decide, by decide, by decide +kernel⟩
theorem md_J23_copyOfRangeByte : md_ok yJ23_copyOfRangeByte.cls yJ23_copyOfRangeByte.desc 3 := ⟨by decide, by decide, by decide +kernel⟩
theorem md_J23_copyOf_2 : md_ok yJ23_copyOf_2.cls yJ23_copyOf_2.desc 2 := ⟨by decide, by decide, by decide +kernel⟩
theorem md_J23_copyOf_3 : md_ok yJ23_copyOf_3.cls yJ23_copyOf_3.desc 3 := ⟨by decide, by decide, by decide +kernel⟩
theorem md_J23_copyOf_4 : md_ok yJ23_copyOf_4.cls yJ23_copyOf_4.desc 2 := ⟨by decide, by decide, by decide +kernel⟩
theorem md_J23_fill : md_ok yJ23_fill.cls yJ23_fill.desc 4 := ⟨by decide, by decide, by decide +kernel⟩
theorem md_J23_rangeCheck : md_ok yJ23_rangeCheck.cls yJ23_rangeCheck.desc 3 := ⟨by decide, by decide, by decide +kernel⟩
theorem md_J24_checkIndex : md_ok yJ24_checkIndex.cls yJ24_checkIndex.desc 3 := ⟨by decide, by decide, by decide +kernel⟩
theorem md_J25_canEncode : md_ok yJ25_canEncode.cls yJ25_canEncode.desc 1 := ⟨by decide, by decide, by decide +kernel⟩
theorem md_J25_charAt : md_ok yJ25_charAt.cls yJ25_charAt.desc 2 := ⟨by decide, by decide, by decide +kernel⟩
theorem md_J25_equals : md_ok yJ25_equals.cls yJ25_equals.desc 2 := ⟨by decide, by decide, by decide +kernel⟩
theorem md_J25_fillNull : md_ok yJ25_fillNull.cls yJ25_fillNull.desc 3 := ⟨by decide, by decide, by decide +kernel⟩
theorem md_J25_hashCode : md_ok yJ25_hashCode.cls yJ25_hashCode.desc 1 := ⟨by decide, by decide, by decide +kernel⟩
theorem md_J26_init : md_ok yJ26_init.cls yJ26_init.desc 0 := ⟨by decide, by decide, by decide +kernel⟩
theorem md_J27_bitCount : md_ok yJ27_bitCount.cls yJ27_bitCount.desc 1 := ⟨by decide, by decide, by decide +kernel⟩
theorem md_J27_compare : md_ok yJ27_compare.cls yJ27_compare.desc 2 := ⟨by decide, by decide, by decide +kernel⟩
theorem md_J27_compareTo : md_ok yJ27_compareTo.cls yJ27_compareTo.desc 1 := ⟨by decide, by decide, by decide +kernel⟩
theorem md_J27_compareTo_2 : md_ok yJ27_compareTo_2.cls yJ27_compareTo_2.desc 1 := ⟨by decide, by decide, by decide +kernel⟩
theorem md_J27_getChars : md_ok yJ27_getChars.cls yJ27_getChars.desc 3 := ⟨by decide, by decide, by decide +kernel⟩
theorem md_J27_init : md_ok yJ27_init.cls yJ27_init.desc 1 := ⟨by decide, by decide, by decide +kernel⟩
theorem md_J27_intValue : md_ok yJ27_intValue.cls yJ27_intValue.desc 0 := ⟨by decide, by decide, by decide +kernel⟩
theorem md_J27_stringSize : md_ok yJ27_stringSize.cls yJ27_stringSize.desc 1 := ⟨by decide, by decide, by decide +kernel⟩
theorem md_J27_valueOf : md_ok yJ27_valueOf.cls yJ27_valueOf.desc 1 := ⟨by decide, by decide, by decide +kernel⟩
theorem md_J2_init : md_ok yJ2_init.cls yJ2_init.desc 0 := ⟨by decide, by decide, by decide +kernel⟩
theorem md_J2_isEmpty : md_ok yJ2_isEmpty.cls yJ2_isEmpty.desc 0 := ⟨by decide, by decide, by decide +kernel⟩
theorem md_J2_toArray : md_ok yJ2_toArray.cls yJ2_toArray.desc 0 := ⟨by decide, by decide, by decide +kernel⟩
theorem md_J33_hasNext : md_ok yJ33_hasNext.cls yJ33_hasNext.desc 0 := ⟨by decide, by decide, by decide +kernel⟩
theorem md_J33_init : md_ok yJ33_init.cls yJ33_init.desc 2 := ⟨by decide, by decide, by decide +kernel⟩
theorem md_J33_nextEntry : md_ok yJ33_nextEntry.cls yJ33_nextEntry.desc 0 := ⟨by decide, by decide, by decide +kernel⟩
theorem md_J35_init : md_ok yJ35_init.cls yJ35_init.desc 2 := ⟨by decide, by decide, by decide +kernel⟩
theorem md_J35_next : md_ok yJ35_next.cls yJ35_next.desc 0 := ⟨by decide, by decide, by decide +kernel⟩
theorem md_J36_init : md_ok yJ36_init.cls yJ36_init.desc 2 := ⟨by decide, by decide, by decide +kernel⟩
theorem md_J36_next : md_ok yJ36_next.cls yJ36_next.desc 0 := ⟨by decide, by decide, by decide +kernel⟩
theorem md_J37_checkIndex : md_ok yJ37_checkIndex.cls yJ37_checkIndex.desc 2 := ⟨by decide, by decide, by decide +kernel⟩
theorem md_J37_equals : md_ok yJ37_equals.cls yJ37_equals.desc 2 := ⟨by decide, by decide, by decide +kernel⟩
theorem md_J37_requireNonNull : md_ok yJ37_requireNonNull.cls yJ37_requireNonNull.desc 1 := ⟨by decide, by decide, by decide +kernel⟩
theorem md_J3_init : md_ok yJ3_init.cls yJ3_init.desc 0 := ⟨by decide, by decide, by decide +kernel⟩
theorem md_J41_init : md_ok yJ41_init.cls yJ41_init.desc 3 := ⟨by decide, by decide, by decide +kernel⟩
theorem md_J43_init : md_ok yJ43_init.cls yJ43_init.desc 3 := ⟨by decide, by decide, by decide +kernel⟩
theorem md_J46_init : md_ok yJ46_init.cls yJ46_init.desc 0 := ⟨by decide, by decide, by decide +kernel⟩
theorem md_J47_add : md_ok yJ47_add.cls yJ47_add.desc 1 := ⟨by decide, by decide, by decide +kernel⟩
theorem md_J47_grow : md_ok yJ47_grow.cls yJ47_grow.desc 1 := ⟨by decide, by decide, by decide +kernel⟩
theorem md_J47_init : md_ok yJ47_init.cls yJ47_init.desc 1 := ⟨by decide, by decide, by decide +kernel⟩
theorem md_J47_init_2 : md_ok yJ47_init_2.cls yJ47_init_2.desc 2 := ⟨by decide, by decide, by decide +kernel⟩
theorem md_J47_offer : md_ok yJ47_offer.cls yJ47_offer.desc 1 := ⟨by decide, by decide, by decide +kernel⟩
theorem md_J47_poll : md_ok yJ47_poll.cls yJ47_poll.desc 0 := ⟨by decide, by decide, by decide +kernel⟩
theorem md_J47_siftDownUsingComparator : md_ok yJ47_siftDownUsingComparator.cls yJ47_siftDownUsingComparator.desc 5 := ⟨by decide, by decide, by decide +kernel⟩
theorem md_J47_siftUp : md_ok yJ47_siftUp.cls yJ47_siftUp.desc 2 := ⟨by decide, by decide, by decide +kernel⟩
theorem md_J47_siftUpUsingComparator : md_ok yJ47_siftUpUsingComparator.cls yJ47_siftUpUsingComparator.desc 4 := ⟨by decide, by decide, by decide +kernel⟩
theorem md_J47_size : md_ok yJ47_size.cls yJ47_size.desc 0 := ⟨by decide, by decide, by decide +kernel⟩
theorem md_J48_init : md_ok yJ48_init.cls yJ48_init.desc 0 := ⟨by decide, by decide, by decide +kernel⟩
theorem md_J4_add : md_ok yJ4_add.cls yJ4_add.desc 1 := ⟨by decide, by decide, by decide +kernel⟩
theorem md_J4_add_2 : md_ok yJ4_add_2.cls yJ4_add_2.desc 3 := ⟨by decide, by decide, by decide +kernel⟩
theorem md_J4_add_3 : md_ok yJ4_add_3.cls yJ4_add_3.desc 2 := ⟨by decide, by decide, by decide +kernel⟩
theorem md_J4_elementData : md_ok yJ4_elementData.cls yJ4_elementData.desc 1 := ⟨by decide, by decide, by decide +kernel⟩
theorem md_J4_fastRemove : md_ok yJ4_fastRemove.cls yJ4_fastRemove.desc 2 := ⟨by decide, by decide, by decide +kernel⟩
theorem md_J4_get : md_ok yJ4_get.cls yJ4_get.desc 1 := ⟨by decide, by decide, by decide +kernel⟩
theorem md_J4_grow : md_ok yJ4_grow.cls yJ4_grow.desc 0 := ⟨by decide, by decide, by decide +kernel⟩
theorem md_J4_grow_2 : md_ok yJ4_grow_2.cls yJ4_grow_2.desc 1 := ⟨by decide, by decide, by decide +kernel⟩
theorem md_J4_init : md_ok yJ4_init.cls yJ4_init.desc 0 := ⟨by decide, by decide, by decide +kernel⟩
theorem md_J4_init_2 : md_ok yJ4_init_2.cls yJ4_init_2.desc 1 := ⟨by decide, by decide, by decide +kernel⟩
theorem md_J4_iterator : md_ok yJ4_iterator.cls yJ4_iterator.desc 0 := ⟨by decide, by decide, by decide +kernel⟩
theorem md_J4_rangeCheckForAdd : md_ok yJ4_rangeCheckForAdd.cls yJ4_rangeCheckForAdd.desc 1 := ⟨by decide, by decide, by decide +kernel⟩
theorem md_J4_remove : md_ok yJ4_remove.cls yJ4_remove.desc 1 := ⟨by decide, by decide, by decide +kernel⟩
theorem md_J4_size : md_ok yJ4_size.cls yJ4_size.desc 0 := ⟨by decide, by decide, by decide +kernel⟩
theorem md_J51_init : md_ok yJ51_init.cls yJ51_init.desc 1 := ⟨by decide, by decide, by decide +kernel⟩
theorem md_J51_iterator : md_ok yJ51_iterator.cls yJ51_iterator.desc 0 := ⟨by decide, by decide, by decide +kernel⟩
theorem md_J51_size : md_ok yJ51_size.cls yJ51_size.desc 0 := ⟨by decide, by decide, by decide +kernel⟩
theorem md_J52_checkInvariants : md_ok yJ52_checkInvariants.cls yJ52_checkInvariants.desc 0 := ⟨by decide, by decide, by decide +kernel⟩
theorem md_J52_ensureCapacity : md_ok yJ52_ensureCapacity.cls yJ52_ensureCapacity.desc 1 := ⟨by decide, by decide, by decide +kernel⟩
theorem md_J52_expandTo : md_ok yJ52_expandTo.cls yJ52_expandTo.desc 1 := ⟨by decide, by decide, by decide +kernel⟩
theorem md_J52_get : md_ok yJ52_get.cls yJ52_get.desc 1 := ⟨by decide, by decide, by decide +kernel⟩
theorem md_J52_init : md_ok yJ52_init.cls yJ52_init.desc 1 := ⟨by decide, by decide, by decide +kernel⟩
theorem md_J52_initWords : md_ok yJ52_initWords.cls yJ52_initWords.desc 1 := ⟨by decide, by decide, by decide +kernel⟩
theorem md_J52_set : md_ok yJ52_set.cls yJ52_set.desc 1 := ⟨by decide, by decide, by decide +kernel⟩
theorem md_J52_wordIndex : md_ok yJ52_wordIndex.cls yJ52_wordIndex.desc 1 := ⟨by decide, by decide, by decide +kernel⟩
theorem md_J54_of : md_ok yJ54_of.cls yJ54_of.desc 9 := ⟨by decide, by decide, by decide +kernel⟩
theorem md_J55_init : md_ok yJ55_init.cls yJ55_init.desc 0 := ⟨by decide, by decide, by decide +kernel⟩
theorem md_J56_contains : md_ok yJ56_contains.cls yJ56_contains.desc 1 := ⟨by decide, by decide, by decide +kernel⟩
theorem md_J56_init : md_ok yJ56_init.cls yJ56_init.desc 0 := ⟨by decide, by decide, by decide +kernel⟩
theorem md_J56_iterator : md_ok yJ56_iterator.cls yJ56_iterator.desc 0 := ⟨by decide, by decide, by decide +kernel⟩
theorem md_J58_get : md_ok yJ58_get.cls yJ58_get.desc 1 := ⟨by decide, by decide, by decide +kernel⟩
theorem md_J58_init : md_ok yJ58_init.cls yJ58_init.desc 2 := ⟨by decide, by decide, by decide +kernel⟩
theorem md_J58_size : md_ok yJ58_size.cls yJ58_size.desc 0 := ⟨by decide, by decide, by decide +kernel⟩
theorem md_J5_init : md_ok yJ5_init.cls yJ5_init.desc 0 := ⟨by decide, by decide, by decide +kernel⟩
theorem md_J6_addLast : md_ok yJ6_addLast.cls yJ6_addLast.desc 1 := ⟨by decide, by decide, by decide +kernel⟩
theorem md_J6_clear : md_ok yJ6_clear.cls yJ6_clear.desc 0 := ⟨by decide, by decide, by decide +kernel⟩
theorem md_J6_init : md_ok yJ6_init.cls yJ6_init.desc 0 := ⟨by decide, by decide, by decide +kernel⟩
theorem md_J6_linkLast : md_ok yJ6_linkLast.cls yJ6_linkLast.desc 1 := ⟨by decide, by decide, by decide +kernel⟩
theorem md_J6_removeFirst : md_ok yJ6_removeFirst.cls yJ6_removeFirst.desc 0 := ⟨by decide, by decide, by decide +kernel⟩
theorem md_J6_removeLast : md_ok yJ6_removeLast.cls yJ6_removeLast.desc 0 := ⟨by decide, by decide, by decide +kernel⟩
theorem md_J6_size : md_ok yJ6_size.cls yJ6_size.desc 0 := ⟨by decide, by decide, by decide +kernel⟩
theorem md_J6_unlinkFirst : md_ok yJ6_unlinkFirst.cls yJ6_unlinkFirst.desc 1 := ⟨by decide, by decide, by decide +kernel⟩
theorem md_J6_unlinkLast : md_ok yJ6_unlinkLast.cls yJ6_unlinkLast.desc 1 := ⟨by decide, by decide, by decide +kernel⟩
theorem md_J7_append : md_ok yJ7_append.cls yJ7_append.desc 1 := ⟨by decide, by decide, by decide +kernel⟩
theorem md_J7_append_2 : md_ok yJ7_append_2.cls yJ7_append_2.desc 1 := ⟨by decide, by decide, by decide +kernel⟩
theorem md_J7_append_3 : md_ok yJ7_append_3.cls yJ7_append_3.desc 1 := ⟨by decide, by decide, by decide +kernel⟩
theorem md_J7_charAt : md_ok yJ7_charAt.cls yJ7_charAt.desc 1 := ⟨by decide, by decide, by decide +kernel⟩
theorem md_J7_ensureCapacityInternal : md_ok yJ7_ensureCapacityInternal.cls yJ7_ensureCapacityInternal.desc 1 := ⟨by decide, by decide, by decide +kernel⟩
theorem md_J7_getValue : md_ok yJ7_getValue.cls yJ7_getValue.desc 0 := ⟨by decide, by decide, by decide +kernel⟩
theorem md_J7_inflateIfNeededFor : md_ok yJ7_inflateIfNeededFor.cls yJ7_inflateIfNeededFor.desc 1 := ⟨by decide, by decide, by decide +kernel⟩
theorem md_J7_init : md_ok yJ7_init.cls yJ7_init.desc 1 := ⟨by decide, by decide, by decide +kernel⟩
theorem md_J7_isLatin1 : md_ok yJ7_isLatin1.cls yJ7_isLatin1.desc 0 := ⟨by decide, by decide, by decide +kernel⟩
theorem md_J7_length : md_ok yJ7_length.cls yJ7_length.desc 0 := ⟨by decide, by decide, by decide +kernel⟩
theorem md_J7_newCapacity : md_ok yJ7_newCapacity.cls yJ7_newCapacity.desc 1 := ⟨by decide, by decide, by decide +kernel⟩
theorem md_J7_putStringAt : md_ok yJ7_putStringAt.cls yJ7_putStringAt.desc 2 := ⟨by decide, by decide, by decide +kernel⟩
theorem md_J7_setLength : md_ok yJ7_setLength.cls yJ7_setLength.desc 1 := ⟨by decide, by decide, by decide +kernel⟩
theorem md_J8_append : md_ok yJ8_append.cls yJ8_append.desc 1 := ⟨by decide, by decide, by decide +kernel⟩
theorem md_J8_append_2 : md_ok yJ8_append_2.cls yJ8_append_2.desc 1 := ⟨by decide, by decide, by decide +kernel⟩
theorem md_J8_append_3 : md_ok yJ8_append_3.cls yJ8_append_3.desc 1 := ⟨by decide, by decide, by decide +kernel⟩
theorem md_J8_charAt : md_ok yJ8_charAt.cls yJ8_charAt.desc 1 := ⟨by decide, by decide, by decide +kernel⟩
theorem md_J8_init : md_ok yJ8_init.cls yJ8_init.desc 0 := ⟨by decide, by decide, by decide +kernel⟩
theorem md_J8_length : md_ok yJ8_length.cls yJ8_length.desc 0 := ⟨by decide, by decide, by decide +kernel⟩
theorem md_J8_setLength : md_ok yJ8_setLength.cls yJ8_setLength.desc 1 := ⟨by decide, by decide, by decide +kernel⟩
theorem md_J8_toString : md_ok yJ8_toString.cls yJ8_toString.desc 0 := ⟨by decide, by decide, by decide +kernel⟩
theorem md_J9_charAt : md_ok yJ9_charAt.cls yJ9_charAt.desc 1 := ⟨by decide, by decide, by decide +kernel⟩
theorem md_J9_checkIndex : md_ok yJ9_checkIndex.cls yJ9_checkIndex.desc 2 := ⟨by decide, by decide, by decide +kernel⟩
theorem md_J9_coder : md_ok yJ9_coder.cls yJ9_coder.desc 0 := ⟨by decide, by decide, by decide +kernel⟩
theorem md_J9_equals : md_ok yJ9_equals.cls yJ9_equals.desc 1 := ⟨by decide, by decide, by decide +kernel⟩
theorem md_J9_getBytes : md_ok yJ9_getBytes.cls yJ9_getBytes.desc 3 := ⟨by decide, by decide, by decide +kernel⟩
theorem md_J9_hashCode : md_ok yJ9_hashCode.cls yJ9_hashCode.desc 0 := ⟨by decide, by decide, by decide +kernel⟩
theorem md_J9_init : md_ok yJ9_init.cls yJ9_init.desc 1 := ⟨by decide, by decide, by decide +kernel⟩
theorem md_J9_init_2 : md_ok yJ9_init_2.cls yJ9_init_2.desc 2 := ⟨by decide, by decide, by decide +kernel⟩
theorem md_J9_isLatin1 : md_ok yJ9_isLatin1.cls yJ9_isLatin1.desc 0 := ⟨by decide, by decide, by decide +kernel⟩
theorem md_J9_length : md_ok yJ9_length.cls yJ9_length.desc 0 := ⟨by decide, by decide, by decide +kernel⟩
theorem md_X0_addLion : md_ok yX0_addLion.cls yX0_addLion.desc 5 := ⟨by decide, by decide, by decide +kernel⟩
theorem md_X0_deadlineOf : md_ok yX0_deadlineOf.cls yX0_deadlineOf.desc 3 := ⟨by decide, by decide, by decide +kernel⟩
theorem md_X0_dismissKeeper : md_ok yX0_dismissKeeper.cls yX0_dismissKeeper.desc 3 := ⟨by decide, by decide, by decide +kernel⟩
theorem md_X0_endOf : md_ok yX0_endOf.cls yX0_endOf.desc 3 := ⟨by decide, by decide, by decide +kernel⟩
theorem md_X0_errorPosition : md_ok yX0_errorPosition.cls yX0_errorPosition.desc 2 := ⟨by decide, by decide, by decide +kernel⟩
theorem md_X0_failedCommand : md_ok yX0_failedCommand.cls yX0_failedCommand.desc 2 := ⟨by decide, by decide, by decide +kernel⟩
theorem md_X0_failureKind : md_ok yX0_failureKind.cls yX0_failureKind.desc 2 := ⟨by decide, by decide, by decide +kernel⟩
theorem md_X0_fewestKeepers : md_ok yX0_fewestKeepers.cls yX0_fewestKeepers.desc 4 := ⟨by decide, by decide, by decide +kernel⟩
theorem md_X0_fewestKeepersBySets : md_ok yX0_fewestKeepersBySets.cls yX0_fewestKeepersBySets.desc 4 := ⟨by decide, by decide, by decide +kernel⟩
theorem md_X0_hireKeeper : md_ok yX0_hireKeeper.cls yX0_hireKeeper.desc 4 := ⟨by decide, by decide, by decide +kernel⟩
theorem md_X0_hungerOf : md_ok yX0_hungerOf.cls yX0_hungerOf.desc 3 := ⟨by decide, by decide, by decide +kernel⟩
theorem md_X0_hungriest : md_ok yX0_hungriest.cls yX0_hungriest.desc 2 := ⟨by decide, by decide, by decide +kernel⟩
theorem md_X0_hungriestByLooking : md_ok yX0_hungriestByLooking.cls yX0_hungriestByLooking.desc 2 := ⟨by decide, by decide, by decide +kernel⟩
theorem md_X0_isCovered : md_ok yX0_isCovered.cls yX0_isCovered.desc 4 := ⟨by decide, by decide, by decide +kernel⟩
theorem md_X0_isStaleAtRank : md_ok yX0_isStaleAtRank.cls yX0_isStaleAtRank.desc 3 := ⟨by decide, by decide, by decide +kernel⟩
theorem md_X0_lateShare : md_ok yX0_lateShare.cls yX0_lateShare.desc 2 := ⟨by decide, by decide, by decide +kernel⟩
theorem md_X0_leave : md_ok yX0_leave.cls yX0_leave.desc 3 := ⟨by decide, by decide, by decide +kernel⟩
theorem md_X0_lionAt : md_ok yX0_lionAt.cls yX0_lionAt.desc 3 := ⟨by decide, by decide, by decide +kernel⟩
theorem md_X0_lionAtRank : md_ok yX0_lionAtRank.cls yX0_lionAtRank.desc 3 := ⟨by decide, by decide, by decide +kernel⟩
theorem md_X0_meanHunger : md_ok yX0_meanHunger.cls yX0_meanHunger.desc 2 := ⟨by decide, by decide, by decide +kernel⟩
theorem md_X0_onDuty : md_ok yX0_onDuty.cls yX0_onDuty.desc 3 := ⟨by decide, by decide, by decide +kernel⟩
theorem md_X0_outputAt : md_ok yX0_outputAt.cls yX0_outputAt.desc 3 := ⟨by decide, by decide, by decide +kernel⟩
theorem md_X0_passHours : md_ok yX0_passHours.cls yX0_passHours.desc 3 := ⟨by decide, by decide, by decide +kernel⟩
theorem md_X0_portionOf : md_ok yX0_portionOf.cls yX0_portionOf.desc 3 := ⟨by decide, by decide, by decide +kernel⟩
theorem md_X0_renderLion : md_ok yX0_renderLion.cls yX0_renderLion.desc 3 := ⟨by decide, by decide, by decide +kernel⟩
theorem md_X0_restore : md_ok yX0_restore.cls yX0_restore.desc 2 := ⟨by decide, by decide, by decide +kernel⟩
theorem md_X0_roar : md_ok yX0_roar.cls yX0_roar.desc 4 := ⟨by decide, by decide, by decide +kernel⟩
theorem md_X0_runScript : md_ok yX0_runScript.cls yX0_runScript.desc 2 := ⟨by decide, by decide, by decide +kernel⟩
theorem md_X0_serve : md_ok yX0_serve.cls yX0_serve.desc 2 := ⟨by decide, by decide, by decide +kernel⟩
theorem md_X0_startOf : md_ok yX0_startOf.cls yX0_startOf.desc 3 := ⟨by decide, by decide, by decide +kernel⟩
theorem md_X0_ticketAtRank : md_ok yX0_ticketAtRank.cls yX0_ticketAtRank.desc 3 := ⟨by decide, by decide, by decide +kernel⟩
theorem md_X0_ticketOf : md_ok yX0_ticketOf.cls yX0_ticketOf.desc 3 := ⟨by decide, by decide, by decide +kernel⟩
theorem md_X0_type : md_ok yX0_type.cls yX0_type.desc 3 := ⟨by decide, by decide, by decide +kernel⟩
theorem md_X0_undo : md_ok yX0_undo.cls yX0_undo.desc 2 := ⟨by decide, by decide, by decide +kernel⟩
theorem md_X0_yawn : md_ok yX0_yawn.cls yX0_yawn.desc 4 := ⟨by decide, by decide, by decide +kernel⟩
theorem md_X10_init : md_ok yX10_init.cls yX10_init.desc 1 := ⟨by decide, by decide, by decide +kernel⟩
theorem md_X10_init_2 : md_ok yX10_init_2.cls yX10_init_2.desc 3 := ⟨by decide, by decide, by decide +kernel⟩
theorem md_X10_merged : md_ok yX10_merged.cls yX10_merged.desc 2 := ⟨by decide, by decide, by decide +kernel⟩
theorem md_X10_way : md_ok yX10_way.cls yX10_way.desc 1 := ⟨by decide, by decide, by decide +kernel⟩
theorem md_X10_withoutTop : md_ok yX10_withoutTop.cls yX10_withoutTop.desc 0 := ⟨by decide, by decide, by decide +kernel⟩
theorem md_X11_init : md_ok yX11_init.cls yX11_init.desc 2 := ⟨by decide, by decide, by decide +kernel⟩
theorem md_X11_isOnDuty : md_ok yX11_isOnDuty.cls yX11_isOnDuty.desc 1 := ⟨by decide, by decide, by decide +kernel⟩
theorem md_X12_areAllInTime : md_ok yX12_areAllInTime.cls yX12_areAllInTime.desc 0 := ⟨by decide, by decide, by decide +kernel⟩
theorem md_X12_init : md_ok yX12_init.cls yX12_init.desc 2 := ⟨by decide, by decide, by decide +kernel⟩
theorem md_X12_isInTime : md_ok yX12_isInTime.cls yX12_isInTime.desc 1 := ⟨by decide, by decide, by decide +kernel⟩
theorem md_X12_most : md_ok yX12_most.cls yX12_most.desc 0 := ⟨by decide, by decide, by decide +kernel⟩
theorem md_X12_mostBySets : md_ok yX12_mostBySets.cls yX12_mostBySets.desc 0 := ⟨by decide, by decide, by decide +kernel⟩
theorem md_X13_compare_2 : md_ok yX13_compare_2.cls yX13_compare_2.desc 2 := ⟨by decide, by decide, by decide +kernel⟩
theorem md_X13_init : md_ok yX13_init.cls yX13_init.desc 0 := ⟨by decide, by decide, by decide +kernel⟩
theorem md_X14_compare : md_ok yX14_compare.cls yX14_compare.desc 2 := ⟨by decide, by decide, by decide +kernel⟩
theorem md_X14_compare_2 : md_ok yX14_compare_2.cls yX14_compare_2.desc 2 := ⟨by decide, by decide, by decide +kernel⟩
theorem md_X14_init : md_ok yX14_init.cls yX14_init.desc 0 := ⟨by decide, by decide, by decide +kernel⟩
theorem md_X15_begins : md_ok yX15_begins.cls yX15_begins.desc 2 := ⟨by decide, by decide, by decide +kernel⟩
theorem md_X15_beginsOne : md_ok yX15_beginsOne.cls yX15_beginsOne.desc 1 := ⟨by decide, by decide, by decide +kernel⟩
theorem md_X15_command : md_ok yX15_command.cls yX15_command.desc 0 := ⟨by decide, by decide, by decide +kernel⟩
theorem md_X15_commands : md_ok yX15_commands.cls yX15_commands.desc 0 := ⟨by decide, by decide, by decide +kernel⟩
theorem md_X15_current : md_ok yX15_current.cls yX15_current.desc 0 := ⟨by decide, by decide, by decide +kernel⟩
theorem md_X15_digit : md_ok yX15_digit.cls yX15_digit.desc 0 := ⟨by decide, by decide, by decide +kernel⟩
theorem md_X15_digitAfterSpace : md_ok yX15_digitAfterSpace.cls yX15_digitAfterSpace.desc 0 := ⟨by decide, by decide, by decide +kernel⟩
theorem md_X15_init : md_ok yX15_init.cls yX15_init.desc 1 := ⟨by decide, by decide, by decide +kernel⟩
theorem md_X15_isAtDigit : md_ok yX15_isAtDigit.cls yX15_isAtDigit.desc 0 := ⟨by decide, by decide, by decide +kernel⟩
theorem md_X15_numberAfter : md_ok yX15_numberAfter.cls yX15_numberAfter.desc 1 := ⟨by decide, by decide, by decide +kernel⟩
theorem md_X15_require : md_ok yX15_require.cls yX15_require.desc 1 := ⟨by decide, by decide, by decide +kernel⟩
theorem md_X15_take : md_ok yX15_take.cls yX15_take.desc 1 := ⟨by decide, by decide, by decide +kernel⟩
theorem md_X15_word : md_ok yX15_word.cls yX15_word.desc 0 := ⟨by decide, by decide, by decide +kernel⟩
theorem md_X16_asPublicException : md_ok yX16_asPublicException.cls yX16_asPublicException.desc 0 := ⟨by decide, by decide, by decide +kernel⟩
theorem md_X16_init : md_ok yX16_init.cls yX16_init.desc 1 := ⟨by decide, by decide, by decide +kernel⟩
theorem md_X16_position : md_ok yX16_position.cls yX16_position.desc 0 := ⟨by decide, by decide, by decide +kernel⟩
theorem md_X17_asPublicException : md_ok yX17_asPublicException.cls yX17_asPublicException.desc 0 := ⟨by decide, by decide, by decide +kernel⟩
theorem md_X17_index : md_ok yX17_index.cls yX17_index.desc 0 := ⟨by decide, by decide, by decide +kernel⟩
theorem md_X17_init : md_ok yX17_init.cls yX17_init.desc 2 := ⟨by decide, by decide, by decide +kernel⟩
theorem md_X17_kind : md_ok yX17_kind.cls yX17_kind.desc 0 := ⟨by decide, by decide, by decide +kernel⟩
theorem md_X1_addLion : md_ok yX1_addLion.cls yX1_addLion.desc 3 := ⟨by decide, by decide, by decide +kernel⟩
theorem md_X1_areAllInTime : md_ok yX1_areAllInTime.cls yX1_areAllInTime.desc 0 := ⟨by decide, by decide, by decide +kernel⟩
theorem md_X1_change : md_ok yX1_change.cls yX1_change.desc 2 := ⟨by decide, by decide, by decide +kernel⟩
theorem md_X1_checkArgument : md_ok yX1_checkArgument.cls yX1_checkArgument.desc 1 := ⟨by decide, by decide, by decide +kernel⟩
theorem md_X1_checkElement : md_ok yX1_checkElement.cls yX1_checkElement.desc 1 := ⟨by decide, by decide, by decide +kernel⟩
theorem md_X1_checkIndex : md_ok yX1_checkIndex.cls yX1_checkIndex.desc 1 := ⟨by decide, by decide, by decide +kernel⟩
theorem md_X1_checkState : md_ok yX1_checkState.cls yX1_checkState.desc 1 := ⟨by decide, by decide, by decide +kernel⟩
theorem md_X1_checkSupport : md_ok yX1_checkSupport.cls yX1_checkSupport.desc 1 := ⟨by decide, by decide, by decide +kernel⟩
theorem md_X1_commit : md_ok yX1_commit.cls yX1_commit.desc 2 := ⟨by decide, by decide, by decide +kernel⟩
theorem md_X1_deadlineOf : md_ok yX1_deadlineOf.cls yX1_deadlineOf.desc 1 := ⟨by decide, by decide, by decide +kernel⟩
theorem md_X1_demand : md_ok yX1_demand.cls yX1_demand.desc 2 := ⟨by decide, by decide, by decide +kernel⟩
theorem md_X1_dismissKeeper : md_ok yX1_dismissKeeper.cls yX1_dismissKeeper.desc 1 := ⟨by decide, by decide, by decide +kernel⟩
theorem md_X1_divisor : md_ok yX1_divisor.cls yX1_divisor.desc 1 := ⟨by decide, by decide, by decide +kernel⟩
theorem md_X1_drawnTotal : md_ok yX1_drawnTotal.cls yX1_drawnTotal.desc 0 := ⟨by decide, by decide, by decide +kernel⟩
theorem md_X1_endOf : md_ok yX1_endOf.cls yX1_endOf.desc 1 := ⟨by decide, by decide, by decide +kernel⟩
theorem md_X1_errorPosition : md_ok yX1_errorPosition.cls yX1_errorPosition.desc 0 := ⟨by decide, by decide, by decide +kernel⟩
theorem md_X1_execute : md_ok yX1_execute.cls yX1_execute.desc 1 := ⟨by decide, by decide, by decide +kernel⟩
theorem md_X1_failedCommand : md_ok yX1_failedCommand.cls yX1_failedCommand.desc 0 := ⟨by decide, by decide, by decide +kernel⟩
theorem md_X1_failureKind : md_ok yX1_failureKind.cls yX1_failureKind.desc 0 := ⟨by decide, by decide, by decide +kernel⟩
theorem md_X1_fewestKeepers : md_ok yX1_fewestKeepers.cls yX1_fewestKeepers.desc 2 := ⟨by decide, by decide, by decide +kernel⟩
theorem md_X1_fewestKeepersBySets : md_ok yX1_fewestKeepersBySets.cls yX1_fewestKeepersBySets.desc 2 := ⟨by decide, by decide, by decide +kernel⟩
theorem md_X1_found : md_ok yX1_found.cls yX1_found.desc 1 := ⟨by decide, by decide, by decide +kernel⟩
theorem md_X1_hireKeeper : md_ok yX1_hireKeeper.cls yX1_hireKeeper.desc 2 := ⟨by decide, by decide, by decide +kernel⟩
theorem md_X1_hour : md_ok yX1_hour.cls yX1_hour.desc 0 := ⟨by decide, by decide, by decide +kernel⟩
theorem md_X1_hungerOf : md_ok yX1_hungerOf.cls yX1_hungerOf.desc 1 := ⟨by decide, by decide, by decide +kernel⟩
theorem md_X1_hungriest : md_ok yX1_hungriest.cls yX1_hungriest.desc 0 := ⟨by decide, by decide, by decide +kernel⟩
theorem md_X1_hungriestByLooking : md_ok yX1_hungriestByLooking.cls yX1_hungriestByLooking.desc 0 := ⟨by decide, by decide, by decide +kernel⟩
theorem md_X1_inOrder : md_ok yX1_inOrder.cls yX1_inOrder.desc 1 := ⟨by decide, by decide, by decide +kernel⟩
theorem md_X1_init : md_ok yX1_init.cls yX1_init.desc 0 := ⟨by decide, by decide, by decide +kernel⟩
theorem md_X1_isBetween : md_ok yX1_isBetween.cls yX1_isBetween.desc 3 := ⟨by decide, by decide, by decide +kernel⟩
theorem md_X1_isConsistent : md_ok yX1_isConsistent.cls yX1_isConsistent.desc 0 := ⟨by decide, by decide, by decide +kernel⟩
theorem md_X1_isCovered : md_ok yX1_isCovered.cls yX1_isCovered.desc 2 := ⟨by decide, by decide, by decide +kernel⟩
theorem md_X1_isStaleAtRank : md_ok yX1_isStaleAtRank.cls yX1_isStaleAtRank.desc 1 := ⟨by decide, by decide, by decide +kernel⟩
theorem md_X1_keeperCount : md_ok yX1_keeperCount.cls yX1_keeperCount.desc 0 := ⟨by decide, by decide, by decide +kernel⟩
theorem md_X1_keeperWith : md_ok yX1_keeperWith.cls yX1_keeperWith.desc 1 := ⟨by decide, by decide, by decide +kernel⟩
theorem md_X1_lateShare : md_ok yX1_lateShare.cls yX1_lateShare.desc 0 := ⟨by decide, by decide, by decide +kernel⟩
theorem md_X1_lateTotal : md_ok yX1_lateTotal.cls yX1_lateTotal.desc 0 := ⟨by decide, by decide, by decide +kernel⟩
theorem md_X1_leave : md_ok yX1_leave.cls yX1_leave.desc 1 := ⟨by decide, by decide, by decide +kernel⟩
theorem md_X1_lionAt : md_ok yX1_lionAt.cls yX1_lionAt.desc 1 := ⟨by decide, by decide, by decide +kernel⟩
theorem md_X1_lionAtRank : md_ok yX1_lionAtRank.cls yX1_lionAtRank.desc 1 := ⟨by decide, by decide, by decide +kernel⟩
theorem md_X1_lionCount : md_ok yX1_lionCount.cls yX1_lionCount.desc 0 := ⟨by decide, by decide, by decide +kernel⟩
theorem md_X1_lionWith : md_ok yX1_lionWith.cls yX1_lionWith.desc 1 := ⟨by decide, by decide, by decide +kernel⟩
theorem md_X1_meanHunger : md_ok yX1_meanHunger.cls yX1_meanHunger.desc 0 := ⟨by decide, by decide, by decide +kernel⟩
theorem md_X1_mostInTime : md_ok yX1_mostInTime.cls yX1_mostInTime.desc 0 := ⟨by decide, by decide, by decide +kernel⟩
theorem md_X1_mostInTimeBySets : md_ok yX1_mostInTimeBySets.cls yX1_mostInTimeBySets.desc 0 := ⟨by decide, by decide, by decide +kernel⟩
theorem md_X1_note : md_ok yX1_note.cls yX1_note.desc 1 := ⟨by decide, by decide, by decide +kernel⟩
theorem md_X1_onDuty : md_ok yX1_onDuty.cls yX1_onDuty.desc 1 := ⟨by decide, by decide, by decide +kernel⟩
theorem md_X1_outputAt : md_ok yX1_outputAt.cls yX1_outputAt.desc 1 := ⟨by decide, by decide, by decide +kernel⟩
theorem md_X1_passHours : md_ok yX1_passHours.cls yX1_passHours.desc 1 := ⟨by decide, by decide, by decide +kernel⟩
theorem md_X1_portionOf : md_ok yX1_portionOf.cls yX1_portionOf.desc 1 := ⟨by decide, by decide, by decide +kernel⟩
theorem md_X1_portionTotal : md_ok yX1_portionTotal.cls yX1_portionTotal.desc 0 := ⟨by decide, by decide, by decide +kernel⟩
theorem md_X1_purge : md_ok yX1_purge.cls yX1_purge.desc 0 := ⟨by decide, by decide, by decide +kernel⟩
theorem md_X1_renderLion : md_ok yX1_renderLion.cls yX1_renderLion.desc 1 := ⟨by decide, by decide, by decide +kernel⟩
theorem md_X1_renderTickets : md_ok yX1_renderTickets.cls yX1_renderTickets.desc 0 := ⟨by decide, by decide, by decide +kernel⟩
theorem md_X1_restore : md_ok yX1_restore.cls yX1_restore.desc 0 := ⟨by decide, by decide, by decide +kernel⟩
theorem md_X1_roar : md_ok yX1_roar.cls yX1_roar.desc 2 := ⟨by decide, by decide, by decide +kernel⟩
theorem md_X1_runScript : md_ok yX1_runScript.cls yX1_runScript.desc 0 := ⟨by decide, by decide, by decide +kernel⟩
theorem md_X1_save : md_ok yX1_save.cls yX1_save.desc 0 := ⟨by decide, by decide, by decide +kernel⟩
theorem md_X1_serve : md_ok yX1_serve.cls yX1_serve.desc 0 := ⟨by decide, by decide, by decide +kernel⟩
theorem md_X1_servedTotal : md_ok yX1_servedTotal.cls yX1_servedTotal.desc 0 := ⟨by decide, by decide, by decide +kernel⟩
theorem md_X1_staleCount : md_ok yX1_staleCount.cls yX1_staleCount.desc 0 := ⟨by decide, by decide, by decide +kernel⟩
theorem md_X1_startOf : md_ok yX1_startOf.cls yX1_startOf.desc 1 := ⟨by decide, by decide, by decide +kernel⟩
theorem md_X1_thrownTotal : md_ok yX1_thrownTotal.cls yX1_thrownTotal.desc 0 := ⟨by decide, by decide, by decide +kernel⟩
theorem md_X1_ticketAtRank : md_ok yX1_ticketAtRank.cls yX1_ticketAtRank.desc 1 := ⟨by decide, by decide, by decide +kernel⟩
theorem md_X1_ticketCount : md_ok yX1_ticketCount.cls yX1_ticketCount.desc 0 := ⟨by decide, by decide, by decide +kernel⟩
theorem md_X1_ticketOf : md_ok yX1_ticketOf.cls yX1_ticketOf.desc 1 := ⟨by decide, by decide, by decide +kernel⟩
theorem md_X1_ticketWith : md_ok yX1_ticketWith.cls yX1_ticketWith.desc 1 := ⟨by decide, by decide, by decide +kernel⟩
theorem md_X1_ticketsByAccounts : md_ok yX1_ticketsByAccounts.cls yX1_ticketsByAccounts.desc 0 := ⟨by decide, by decide, by decide +kernel⟩
theorem md_X1_type : md_ok yX1_type.cls yX1_type.desc 1 := ⟨by decide, by decide, by decide +kernel⟩
theorem md_X1_undo : md_ok yX1_undo.cls yX1_undo.desc 0 := ⟨by decide, by decide, by decide +kernel⟩
theorem md_X1_write : md_ok yX1_write.cls yX1_write.desc 1 := ⟨by decide, by decide, by decide +kernel⟩
theorem md_X1_yawn : md_ok yX1_yawn.cls yX1_yawn.desc 2 := ⟨by decide, by decide, by decide +kernel⟩
theorem md_X2_addLion : md_ok yX2_addLion.cls yX2_addLion.desc 3 := ⟨by decide, by decide, by decide +kernel⟩
theorem md_X2_areHours : md_ok yX2_areHours.cls yX2_areHours.desc 2 := ⟨by decide, by decide, by decide +kernel⟩
theorem md_X2_changeHunger : md_ok yX2_changeHunger.cls yX2_changeHunger.desc 3 := ⟨by decide, by decide, by decide +kernel⟩
theorem md_X2_changeHunger_2 : md_ok yX2_changeHunger_2.cls yX2_changeHunger_2.desc 2 := ⟨by decide, by decide, by decide +kernel⟩
theorem md_X2_copy : md_ok yX2_copy.cls yX2_copy.desc 0 := ⟨by decide, by decide, by decide +kernel⟩
theorem md_X2_dismissKeeper : md_ok yX2_dismissKeeper.cls yX2_dismissKeeper.desc 1 := ⟨by decide, by decide, by decide +kernel⟩
theorem md_X2_draw : md_ok yX2_draw.cls yX2_draw.desc 2 := ⟨by decide, by decide, by decide +kernel⟩
theorem md_X2_feeding : md_ok yX2_feeding.cls yX2_feeding.desc 0 := ⟨by decide, by decide, by decide +kernel⟩
theorem md_X2_hasLion : md_ok yX2_hasLion.cls yX2_hasLion.desc 1 := ⟨by decide, by decide, by decide +kernel⟩
theorem md_X2_hireKeeper : md_ok yX2_hireKeeper.cls yX2_hireKeeper.desc 2 := ⟨by decide, by decide, by decide +kernel⟩
theorem md_X2_hungerTotal : md_ok yX2_hungerTotal.cls yX2_hungerTotal.desc 0 := ⟨by decide, by decide, by decide +kernel⟩
theorem md_X2_hungriest : md_ok yX2_hungriest.cls yX2_hungriest.desc 0 := ⟨by decide, by decide, by decide +kernel⟩
theorem md_X2_hungriestByLooking : md_ok yX2_hungriestByLooking.cls yX2_hungriestByLooking.desc 0 := ⟨by decide, by decide, by decide +kernel⟩
theorem md_X2_init : md_ok yX2_init.cls yX2_init.desc 0 := ⟨by decide, by decide, by decide +kernel⟩
theorem md_X2_isConsistent : md_ok yX2_isConsistent.cls yX2_isConsistent.desc 0 := ⟨by decide, by decide, by decide +kernel⟩
theorem md_X2_isValid : md_ok yX2_isValid.cls yX2_isValid.desc 1 := ⟨by decide, by decide, by decide +kernel⟩
theorem md_X2_leave : md_ok yX2_leave.cls yX2_leave.desc 1 := ⟨by decide, by decide, by decide +kernel⟩
theorem md_X2_lionAt : md_ok yX2_lionAt.cls yX2_lionAt.desc 1 := ⟨by decide, by decide, by decide +kernel⟩
theorem md_X2_passHours : md_ok yX2_passHours.cls yX2_passHours.desc 1 := ⟨by decide, by decide, by decide +kernel⟩
theorem md_X2_purge : md_ok yX2_purge.cls yX2_purge.desc 0 := ⟨by decide, by decide, by decide +kernel⟩
theorem md_X2_put : md_ok yX2_put.cls yX2_put.desc 1 := ⟨by decide, by decide, by decide +kernel⟩
theorem md_X2_serve : md_ok yX2_serve.cls yX2_serve.desc 0 := ⟨by decide, by decide, by decide +kernel⟩
theorem md_X2_staleCount : md_ok yX2_staleCount.cls yX2_staleCount.desc 0 := ⟨by decide, by decide, by decide +kernel⟩
theorem md_X2_take : md_ok yX2_take.cls yX2_take.desc 0 := ⟨by decide, by decide, by decide +kernel⟩
theorem md_X2_throwStale : md_ok yX2_throwStale.cls yX2_throwStale.desc 0 := ⟨by decide, by decide, by decide +kernel⟩
theorem md_X2_ticketsByAccounts : md_ok yX2_ticketsByAccounts.cls yX2_ticketsByAccounts.desc 0 := ⟨by decide, by decide, by decide +kernel⟩
theorem md_X2_ticketsText : md_ok yX2_ticketsText.cls yX2_ticketsText.desc 0 := ⟨by decide, by decide, by decide +kernel⟩
theorem md_X3_areWaysAlike : md_ok yX3_areWaysAlike.cls yX3_areWaysAlike.desc 0 := ⟨by decide, by decide, by decide +kernel⟩
theorem md_X3_copy : md_ok yX3_copy.cls yX3_copy.desc 0 := ⟨by decide, by decide, by decide +kernel⟩
theorem md_X3_count : md_ok yX3_count.cls yX3_count.desc 0 := ⟨by decide, by decide, by decide +kernel⟩
theorem md_X3_covers : md_ok yX3_covers.cls yX3_covers.desc 3 := ⟨by decide, by decide, by decide +kernel⟩
theorem md_X3_fewest : md_ok yX3_fewest.cls yX3_fewest.desc 2 := ⟨by decide, by decide, by decide +kernel⟩
theorem md_X3_fewestBySets : md_ok yX3_fewestBySets.cls yX3_fewestBySets.desc 2 := ⟨by decide, by decide, by decide +kernel⟩
theorem md_X3_get : md_ok yX3_get.cls yX3_get.desc 1 := ⟨by decide, by decide, by decide +kernel⟩
theorem md_X3_has : md_ok yX3_has.cls yX3_has.desc 1 := ⟨by decide, by decide, by decide +kernel⟩
theorem md_X3_hours : md_ok yX3_hours.cls yX3_hours.desc 0 := ⟨by decide, by decide, by decide +kernel⟩
theorem md_X3_init : md_ok yX3_init.cls yX3_init.desc 0 := ⟨by decide, by decide, by decide +kernel⟩
theorem md_X3_isCovered : md_ok yX3_isCovered.cls yX3_isCovered.desc 2 := ⟨by decide, by decide, by decide +kernel⟩
theorem md_X3_latestEnd : md_ok yX3_latestEnd.cls yX3_latestEnd.desc 1 := ⟨by decide, by decide, by decide +kernel⟩
theorem md_X3_onDuty : md_ok yX3_onDuty.cls yX3_onDuty.desc 1 := ⟨by decide, by decide, by decide +kernel⟩
theorem md_X4_about : md_ok yX4_about.cls yX4_about.desc 2 := ⟨by decide, by decide, by decide +kernel⟩
theorem md_X4_addLion : md_ok yX4_addLion.cls yX4_addLion.desc 3 := ⟨by decide, by decide, by decide +kernel⟩
theorem md_X4_adds : md_ok yX4_adds.cls yX4_adds.desc 3 := ⟨by decide, by decide, by decide +kernel⟩
theorem md_X4_areAllInTime : md_ok yX4_areAllInTime.cls yX4_areAllInTime.desc 0 := ⟨by decide, by decide, by decide +kernel⟩
theorem md_X4_begins : md_ok yX4_begins.cls yX4_begins.desc 0 := ⟨by decide, by decide, by decide +kernel⟩
theorem md_X4_behind : md_ok yX4_behind.cls yX4_behind.desc 2 := ⟨by decide, by decide, by decide +kernel⟩
theorem md_X4_clears : md_ok yX4_clears.cls yX4_clears.desc 0 := ⟨by decide, by decide, by decide +kernel⟩
theorem md_X4_command : md_ok yX4_command.cls yX4_command.desc 0 := ⟨by decide, by decide, by decide +kernel⟩
theorem md_X4_commands : md_ok yX4_commands.cls yX4_commands.desc 0 := ⟨by decide, by decide, by decide +kernel⟩
theorem md_X4_count : md_ok yX4_count.cls yX4_count.desc 1 := ⟨by decide, by decide, by decide +kernel⟩
theorem md_X4_covers : md_ok yX4_covers.cls yX4_covers.desc 3 := ⟨by decide, by decide, by decide +kernel⟩
theorem md_X4_deadlineOf : md_ok yX4_deadlineOf.cls yX4_deadlineOf.desc 1 := ⟨by decide, by decide, by decide +kernel⟩
theorem md_X4_digits : md_ok yX4_digits.cls yX4_digits.desc 1 := ⟨by decide, by decide, by decide +kernel⟩
theorem md_X4_dismissKeeper : md_ok yX4_dismissKeeper.cls yX4_dismissKeeper.desc 1 := ⟨by decide, by decide, by decide +kernel⟩
theorem md_X4_dismisses : md_ok yX4_dismisses.cls yX4_dismisses.desc 1 := ⟨by decide, by decide, by decide +kernel⟩
theorem md_X4_does : md_ok yX4_does.cls yX4_does.desc 4 := ⟨by decide, by decide, by decide +kernel⟩
theorem md_X4_drawnTotal : md_ok yX4_drawnTotal.cls yX4_drawnTotal.desc 0 := ⟨by decide, by decide, by decide +kernel⟩
theorem md_X4_draws : md_ok yX4_draws.cls yX4_draws.desc 1 := ⟨by decide, by decide, by decide +kernel⟩
theorem md_X4_endOf : md_ok yX4_endOf.cls yX4_endOf.desc 1 := ⟨by decide, by decide, by decide +kernel⟩
theorem md_X4_ends : md_ok yX4_ends.cls yX4_ends.desc 1 := ⟨by decide, by decide, by decide +kernel⟩
theorem md_X4_errorPosition : md_ok yX4_errorPosition.cls yX4_errorPosition.desc 0 := ⟨by decide, by decide, by decide +kernel⟩
theorem md_X4_expects : md_ok yX4_expects.cls yX4_expects.desc 1 := ⟨by decide, by decide, by decide +kernel⟩
theorem md_X4_fail : md_ok yX4_fail.cls yX4_fail.desc 1 := ⟨by decide, by decide, by decide +kernel⟩
theorem md_X4_failedCommand : md_ok yX4_failedCommand.cls yX4_failedCommand.desc 0 := ⟨by decide, by decide, by decide +kernel⟩
theorem md_X4_failureKind : md_ok yX4_failureKind.cls yX4_failureKind.desc 0 := ⟨by decide, by decide, by decide +kernel⟩
theorem md_X4_fewestKeepers : md_ok yX4_fewestKeepers.cls yX4_fewestKeepers.desc 2 := ⟨by decide, by decide, by decide +kernel⟩
theorem md_X4_fewestKeepersBySets : md_ok yX4_fewestKeepersBySets.cls yX4_fewestKeepersBySets.desc 2 := ⟨by decide, by decide, by decide +kernel⟩
theorem md_X4_goes : md_ok yX4_goes.cls yX4_goes.desc 1 := ⟨by decide, by decide, by decide +kernel⟩
theorem md_X4_hireKeeper : md_ok yX4_hireKeeper.cls yX4_hireKeeper.desc 2 := ⟨by decide, by decide, by decide +kernel⟩
theorem md_X4_hires : md_ok yX4_hires.cls yX4_hires.desc 2 := ⟨by decide, by decide, by decide +kernel⟩
theorem md_X4_hour : md_ok yX4_hour.cls yX4_hour.desc 0 := ⟨by decide, by decide, by decide +kernel⟩
theorem md_X4_hungerOf : md_ok yX4_hungerOf.cls yX4_hungerOf.desc 1 := ⟨by decide, by decide, by decide +kernel⟩
theorem md_X4_hungriest : md_ok yX4_hungriest.cls yX4_hungriest.desc 0 := ⟨by decide, by decide, by decide +kernel⟩
theorem md_X4_hungriestByLooking : md_ok yX4_hungriestByLooking.cls yX4_hungriestByLooking.desc 0 := ⟨by decide, by decide, by decide +kernel⟩
theorem md_X4_init : md_ok yX4_init.cls yX4_init.desc 0 := ⟨by decide, by decide, by decide +kernel⟩
theorem md_X4_isConsistent : md_ok yX4_isConsistent.cls yX4_isConsistent.desc 0 := ⟨by decide, by decide, by decide +kernel⟩
theorem md_X4_isCovered : md_ok yX4_isCovered.cls yX4_isCovered.desc 2 := ⟨by decide, by decide, by decide +kernel⟩
theorem md_X4_isIn : md_ok yX4_isIn.cls yX4_isIn.desc 3 := ⟨by decide, by decide, by decide +kernel⟩
theorem md_X4_isInTime : md_ok yX4_isInTime.cls yX4_isInTime.desc 1 := ⟨by decide, by decide, by decide +kernel⟩
theorem md_X4_isStaleAtRank : md_ok yX4_isStaleAtRank.cls yX4_isStaleAtRank.desc 1 := ⟨by decide, by decide, by decide +kernel⟩
theorem md_X4_keeperCount : md_ok yX4_keeperCount.cls yX4_keeperCount.desc 0 := ⟨by decide, by decide, by decide +kernel⟩
theorem md_X4_lateShare : md_ok yX4_lateShare.cls yX4_lateShare.desc 0 := ⟨by decide, by decide, by decide +kernel⟩
theorem md_X4_lateTotal : md_ok yX4_lateTotal.cls yX4_lateTotal.desc 0 := ⟨by decide, by decide, by decide +kernel⟩
theorem md_X4_lays : md_ok yX4_lays.cls yX4_lays.desc 2 := ⟨by decide, by decide, by decide +kernel⟩
theorem md_X4_leave : md_ok yX4_leave.cls yX4_leave.desc 1 := ⟨by decide, by decide, by decide +kernel⟩
theorem md_X4_leaves : md_ok yX4_leaves.cls yX4_leaves.desc 1 := ⟨by decide, by decide, by decide +kernel⟩
theorem md_X4_lion : md_ok yX4_lion.cls yX4_lion.desc 1 := ⟨by decide, by decide, by decide +kernel⟩
theorem md_X4_lionAt : md_ok yX4_lionAt.cls yX4_lionAt.desc 1 := ⟨by decide, by decide, by decide +kernel⟩
theorem md_X4_lionAtRank : md_ok yX4_lionAtRank.cls yX4_lionAtRank.desc 1 := ⟨by decide, by decide, by decide +kernel⟩
theorem md_X4_lionCount : md_ok yX4_lionCount.cls yX4_lionCount.desc 0 := ⟨by decide, by decide, by decide +kernel⟩
theorem md_X4_meanHunger : md_ok yX4_meanHunger.cls yX4_meanHunger.desc 0 := ⟨by decide, by decide, by decide +kernel⟩
theorem md_X4_mostInTime : md_ok yX4_mostInTime.cls yX4_mostInTime.desc 0 := ⟨by decide, by decide, by decide +kernel⟩
theorem md_X4_mostInTimeBySets : md_ok yX4_mostInTimeBySets.cls yX4_mostInTimeBySets.desc 0 := ⟨by decide, by decide, by decide +kernel⟩
theorem md_X4_of : md_ok yX4_of.cls yX4_of.desc 2 := ⟨by decide, by decide, by decide +kernel⟩
theorem md_X4_onDuty : md_ok yX4_onDuty.cls yX4_onDuty.desc 1 := ⟨by decide, by decide, by decide +kernel⟩
theorem md_X4_onDutyAt : md_ok yX4_onDutyAt.cls yX4_onDutyAt.desc 1 := ⟨by decide, by decide, by decide +kernel⟩
theorem md_X4_outputAt : md_ok yX4_outputAt.cls yX4_outputAt.desc 1 := ⟨by decide, by decide, by decide +kernel⟩
theorem md_X4_owner : md_ok yX4_owner.cls yX4_owner.desc 1 := ⟨by decide, by decide, by decide +kernel⟩
theorem md_X4_passHours : md_ok yX4_passHours.cls yX4_passHours.desc 1 := ⟨by decide, by decide, by decide +kernel⟩
theorem md_X4_passes : md_ok yX4_passes.cls yX4_passes.desc 1 := ⟨by decide, by decide, by decide +kernel⟩
theorem md_X4_pile : md_ok yX4_pile.cls yX4_pile.desc 1 := ⟨by decide, by decide, by decide +kernel⟩
theorem md_X4_portionOf : md_ok yX4_portionOf.cls yX4_portionOf.desc 1 := ⟨by decide, by decide, by decide +kernel⟩
theorem md_X4_portionTotal : md_ok yX4_portionTotal.cls yX4_portionTotal.desc 0 := ⟨by decide, by decide, by decide +kernel⟩
theorem md_X4_purge : md_ok yX4_purge.cls yX4_purge.desc 0 := ⟨by decide, by decide, by decide +kernel⟩
theorem md_X4_renderLion : md_ok yX4_renderLion.cls yX4_renderLion.desc 1 := ⟨by decide, by decide, by decide +kernel⟩
theorem md_X4_renderTickets : md_ok yX4_renderTickets.cls yX4_renderTickets.desc 0 := ⟨by decide, by decide, by decide +kernel⟩
theorem md_X4_restore : md_ok yX4_restore.cls yX4_restore.desc 0 := ⟨by decide, by decide, by decide +kernel⟩
theorem md_X4_roar : md_ok yX4_roar.cls yX4_roar.desc 2 := ⟨by decide, by decide, by decide +kernel⟩
theorem md_X4_roars : md_ok yX4_roars.cls yX4_roars.desc 3 := ⟨by decide, by decide, by decide +kernel⟩
theorem md_X4_runScript : md_ok yX4_runScript.cls yX4_runScript.desc 0 := ⟨by decide, by decide, by decide +kernel⟩
theorem md_X4_save : md_ok yX4_save.cls yX4_save.desc 0 := ⟨by decide, by decide, by decide +kernel⟩
theorem md_X4_serve : md_ok yX4_serve.cls yX4_serve.desc 0 := ⟨by decide, by decide, by decide +kernel⟩
theorem md_X4_servedTotal : md_ok yX4_servedTotal.cls yX4_servedTotal.desc 0 := ⟨by decide, by decide, by decide +kernel⟩
theorem md_X4_serves : md_ok yX4_serves.cls yX4_serves.desc 0 := ⟨by decide, by decide, by decide +kernel⟩
theorem md_X4_shift : md_ok yX4_shift.cls yX4_shift.desc 2 := ⟨by decide, by decide, by decide +kernel⟩
theorem md_X4_sign : md_ok yX4_sign.cls yX4_sign.desc 0 := ⟨by decide, by decide, by decide +kernel⟩
theorem md_X4_sorts : md_ok yX4_sorts.cls yX4_sorts.desc 0 := ⟨by decide, by decide, by decide +kernel⟩
theorem md_X4_staleCount : md_ok yX4_staleCount.cls yX4_staleCount.desc 0 := ⟨by decide, by decide, by decide +kernel⟩
theorem md_X4_startOf : md_ok yX4_startOf.cls yX4_startOf.desc 1 := ⟨by decide, by decide, by decide +kernel⟩
theorem md_X4_starves : md_ok yX4_starves.cls yX4_starves.desc 2 := ⟨by decide, by decide, by decide +kernel⟩
theorem md_X4_takesOut : md_ok yX4_takesOut.cls yX4_takesOut.desc 1 := ⟨by decide, by decide, by decide +kernel⟩
theorem md_X4_tells : md_ok yX4_tells.cls yX4_tells.desc 1 := ⟨by decide, by decide, by decide +kernel⟩
theorem md_X4_thrown : md_ok yX4_thrown.cls yX4_thrown.desc 0 := ⟨by decide, by decide, by decide +kernel⟩
theorem md_X4_thrownTotal : md_ok yX4_thrownTotal.cls yX4_thrownTotal.desc 0 := ⟨by decide, by decide, by decide +kernel⟩
theorem md_X4_ticketAtRank : md_ok yX4_ticketAtRank.cls yX4_ticketAtRank.desc 1 := ⟨by decide, by decide, by decide +kernel⟩
theorem md_X4_ticketCount : md_ok yX4_ticketCount.cls yX4_ticketCount.desc 0 := ⟨by decide, by decide, by decide +kernel⟩
theorem md_X4_ticketOf : md_ok yX4_ticketOf.cls yX4_ticketOf.desc 1 := ⟨by decide, by decide, by decide +kernel⟩
theorem md_X4_ticketsByAccounts : md_ok yX4_ticketsByAccounts.cls yX4_ticketsByAccounts.desc 0 := ⟨by decide, by decide, by decide +kernel⟩
theorem md_X4_type : md_ok yX4_type.cls yX4_type.desc 1 := ⟨by decide, by decide, by decide +kernel⟩
theorem md_X4_undo : md_ok yX4_undo.cls yX4_undo.desc 0 := ⟨by decide, by decide, by decide +kernel⟩
theorem md_X4_word : md_ok yX4_word.cls yX4_word.desc 0 := ⟨by decide, by decide, by decide +kernel⟩
theorem md_X4_writes : md_ok yX4_writes.cls yX4_writes.desc 1 := ⟨by decide, by decide, by decide +kernel⟩
theorem md_X4_writesBehind : md_ok yX4_writesBehind.cls yX4_writesBehind.desc 2 := ⟨by decide, by decide, by decide +kernel⟩
theorem md_X4_writesNumber : md_ok yX4_writesNumber.cls yX4_writesNumber.desc 1 := ⟨by decide, by decide, by decide +kernel⟩
theorem md_X4_yawn : md_ok yX4_yawn.cls yX4_yawn.desc 2 := ⟨by decide, by decide, by decide +kernel⟩
theorem md_X5_applyTo : md_ok yX5_applyTo.cls yX5_applyTo.desc 1 := ⟨by decide, by decide, by decide +kernel⟩
theorem md_X5_at : md_ok yX5_at.cls yX5_at.desc 1 := ⟨by decide, by decide, by decide +kernel⟩
theorem md_X5_init : md_ok yX5_init.cls yX5_init.desc 2 := ⟨by decide, by decide, by decide +kernel⟩
theorem md_X6_init : md_ok yX6_init.cls yX6_init.desc 1 := ⟨by decide, by decide, by decide +kernel⟩
theorem md_X7_asPublicException : md_ok yX7_asPublicException.cls yX7_asPublicException.desc 0 := ⟨by decide, by decide, by decide +kernel⟩
theorem md_X7_init : md_ok yX7_init.cls yX7_init.desc 1 := ⟨by decide, by decide, by decide +kernel⟩
theorem md_X7_kind : md_ok yX7_kind.cls yX7_kind.desc 0 := ⟨by decide, by decide, by decide +kernel⟩
theorem md_X8_hunger : md_ok yX8_hunger.cls yX8_hunger.desc 0 := ⟨by decide, by decide, by decide +kernel⟩
theorem md_X8_init : md_ok yX8_init.cls yX8_init.desc 4 := ⟨by decide, by decide, by decide +kernel⟩
theorem md_X8_toString : md_ok yX8_toString.cls yX8_toString.desc 0 := ⟨by decide, by decide, by decide +kernel⟩
theorem md_X8_with : md_ok yX8_with.cls yX8_with.desc 1 := ⟨by decide, by decide, by decide +kernel⟩
theorem md_X9_init : md_ok yX9_init.cls yX9_init.desc 3 := ⟨by decide, by decide, by decide +kernel⟩
theorem md_X9_isBefore : md_ok yX9_isBefore.cls yX9_isBefore.desc 1 := ⟨by decide, by decide, by decide +kernel⟩
theorem md_i0 : md_ok "java/util/Collection" "()Ljava/util/Iterator;" 0 := ⟨by decide, by decide, by decide +kernel⟩
theorem md_i1 : md_ok "java/util/Iterator" "()Z" 0 := ⟨by decide, by decide, by decide +kernel⟩
theorem md_i10 : md_ok "java/util/List" "(ILjava/lang/Object;)V" 2 := ⟨by decide, by decide, by decide +kernel⟩
theorem md_i11 : md_ok "java/util/Iterator" "()V" 0 := ⟨by decide, by decide, by decide +kernel⟩
theorem md_i12 : md_ok "java/util/List" "(I)Ljava/lang/Object;" 1 := ⟨by decide, by decide, by decide +kernel⟩
theorem md_i13 : md_ok "java/util/Collection" "()[Ljava/lang/Object;" 0 := ⟨by decide, by decide, by decide +kernel⟩
theorem md_i14 : md_ok "java/lang/Iterable" "()Ljava/util/Iterator;" 0 := ⟨by decide, by decide, by decide +kernel⟩
theorem md_i15 : md_ok "java/util/List" "(Ljava/lang/Object;)Z" 1 := ⟨by decide, by decide, by decide +kernel⟩
theorem md_i2 : md_ok "java/util/Iterator" "()Ljava/lang/Object;" 0 := ⟨by decide, by decide, by decide +kernel⟩
theorem md_i3 : md_ok "java/util/List" "(I)Ljava/lang/Object;" 1 := ⟨by decide, by decide, by decide +kernel⟩
theorem md_i4 : md_ok "java/lang/Comparable" "(Ljava/lang/Object;)I" 1 := ⟨by decide, by decide, by decide +kernel⟩
theorem md_i5 : md_ok "java/util/Comparator" "(Ljava/lang/Object;Ljava/lang/Object;)I" 2 := ⟨by decide, by decide, by decide +kernel⟩
theorem md_i6 : md_ok "java/util/List" "()Ljava/util/Iterator;" 0 := ⟨by decide, by decide, by decide +kernel⟩
theorem md_i7 : md_ok "java/util/List" "(Ljava/lang/Object;)Z" 1 := ⟨by decide, by decide, by decide +kernel⟩
theorem md_i9 : md_ok "java/util/List" "()I" 0 := ⟨by decide, by decide, by decide +kernel⟩
theorem md_o_LionGate_Failure_asPublicException : md_ok "LionGate$Failure" "()Ljava/lang/RuntimeException;" 0 := ⟨by decide, by decide, by decide +kernel⟩
theorem md_o_java_lang_AbstractStringBuilder_getValue : md_ok "java/lang/AbstractStringBuilder" "()[B" 0 := ⟨by decide, by decide, by decide +kernel⟩
theorem md_o_java_lang_AbstractStringBuilder_isLatin1 : md_ok "java/lang/AbstractStringBuilder" "()Z" 0 := ⟨by decide, by decide, by decide +kernel⟩
theorem md_o_java_lang_AbstractStringBuilder_length : md_ok "java/lang/AbstractStringBuilder" "()I" 0 := ⟨by decide, by decide, by decide +kernel⟩
theorem md_o_java_lang_Object_equals : md_ok "java/lang/Object" "(Ljava/lang/Object;)Z" 1 := ⟨by decide, by decide, by decide +kernel⟩
theorem md_o_java_util_AbstractCollection_isEmpty : md_ok "java/util/AbstractCollection" "()Z" 0 := ⟨by decide, by decide, by decide +kernel⟩
theorem md_o_java_util_AbstractCollection_iterator : md_ok "java/util/AbstractCollection" "()Ljava/util/Iterator;" 0 := ⟨by decide, by decide, by decide +kernel⟩
theorem md_o_java_util_AbstractCollection_size : md_ok "java/util/AbstractCollection" "()I" 0 := ⟨by decide, by decide, by decide +kernel⟩
theorem md_o_java_util_AbstractMap_isEmpty : md_ok "java/util/AbstractMap" "()Z" 0 := ⟨by decide, by decide, by decide +kernel⟩
theorem md_o_java_util_AbstractMap_size : md_ok "java/util/AbstractMap" "()I" 0 := ⟨by decide, by decide, by decide +kernel⟩
theorem md_o_java_util_TreeMap_PrivateEntryIterator_nextEntry : md_ok "java/util/TreeMap$PrivateEntryIterator" "()Ljava/util/TreeMap$Entry;" 0 := ⟨by decide, by decide, by decide +kernel⟩
theorem fl_X1_66 : ∀ t k, ([(0, 0)] : List (Nat × Nat)).lookup t = some k → fd_ok RX1 66 t k 0 (.object "LionGate$Queue") := fd_cons ⟨_, _, _, "LionGate", cl_0, by decide, Or.inl q371, Or.inl rfl, rfl, fun _ => rfl, fun h => absurd h (by decide)⟩ (fd_nil)
theorem fl_X1_75 : ∀ t k, ([(0, 2)] : List (Nat × Nat)).lookup t = some k → fd_ok RX1 75 t k 1 (.object "java/util/LinkedList") := fd_cons ⟨_, _, _, "LionGate", cl_0, by decide, Or.inl q373, Or.inl rfl, rfl, fun _ => rfl, fun _ => rfl⟩ (fd_nil)
theorem fl_X1_82 : ∀ t k, ([(0, 3)] : List (Nat × Nat)).lookup t = some k → fd_ok RX1 82 t k 1 (.object "java/lang/StringBuilder") := fd_cons ⟨_, _, _, "LionGate", cl_0, by decide, Or.inl q374, Or.inl rfl, rfl, fun _ => rfl, fun _ => rfl⟩ (fd_nil)
theorem fl_X1_86 : ∀ t k, ([(0, 4)] : List (Nat × Nat)).lookup t = some k → fd_ok RX1 86 t k 0 (.int) := fd_cons ⟨_, _, _, "LionGate", cl_0, by decide, Or.inl q375, Or.inl rfl, rfl, fun _ => rfl, fun h => absurd h (by decide)⟩ (fd_nil)
theorem fl_X1_90 : ∀ t k, ([(0, 5)] : List (Nat × Nat)).lookup t = some k → fd_ok RX1 90 t k 0 (.int) := fd_cons ⟨_, _, _, "LionGate", cl_0, by decide, Or.inl q376, Or.inl rfl, rfl, fun _ => rfl, fun h => absurd h (by decide)⟩ (fd_nil)
theorem fl_X1_95 : ∀ t k, ([(0, 7)] : List (Nat × Nat)).lookup t = some k → fd_ok RX1 95 t k 0 (.object "java/lang/String") := fd_cons ⟨_, _, _, "LionGate", cl_0, by decide, Or.inl q378, Or.inl rfl, rfl, fun _ => rfl, fun h => absurd h (by decide)⟩ (fd_nil)
theorem fl_X2_12 : ∀ t k, ([(2, 0)] : List (Nat × Nat)).lookup t = some k → fd_ok RX2 12 t k 1 (.object "java/util/TreeMap") := fd_cons ⟨_, _, _, "LionGate$Queue", cl_2, by decide, Or.inl q272, Or.inl rfl, rfl, fun _ => rfl, fun _ => rfl⟩ (fd_nil)
theorem fl_X2_21 : ∀ t k, ([(2, 1)] : List (Nat × Nat)).lookup t = some k → fd_ok RX2 21 t k 0 (.object "LionGate$Keepers") := fd_cons ⟨_, _, _, "LionGate$Queue", cl_2, by decide, Or.inl q274, Or.inl rfl, rfl, fun _ => rfl, fun h => absurd h (by decide)⟩ (fd_nil)
theorem fl_X3_12 : ∀ t k, ([(3, 0)] : List (Nat × Nat)).lookup t = some k → fd_ok RX3 12 t k 1 (.object "java/util/List") := fd_cons ⟨_, _, _, "LionGate$Keepers", cl_3, by decide, Or.inl q267, Or.inl rfl, rfl, fun _ => rfl, fun _ => rfl⟩ (fd_nil)
theorem fl_J4_9 : ∀ t k, ([(16, 1)] : List (Nat × Nat)).lookup t = some k → fd_ok RJ4 9 t k 0 (.array (.object "java/lang/Object")) := fd_cons ⟨_, _, _, "java/util/ArrayList", cl_16, by decide, Or.inl q248, Or.inl rfl, rfl, fun _ => rfl, fun h => absurd h (by decide)⟩ (fd_nil)
theorem fl_J3_7 : ∀ t k, ([(16, 0), (24, 0)] : List (Nat × Nat)).lookup t = some k → fd_ok RJ3 7 t k 0 (.int) := fd_cons ⟨_, _, _, "java/util/AbstractList", cl_16, by decide, Or.inl q252, Or.inl rfl, rfl, fun _ => rfl, fun h => absurd h (by decide)⟩ (fd_cons ⟨_, _, _, "java/util/AbstractList", cl_24, by decide, Or.inl q252, Or.inl rfl, rfl, fun _ => rfl, fun h => absurd h (by decide)⟩ (fd_nil))
theorem fl_J1_7 : ∀ t k, ([(18, 4)] : List (Nat × Nat)).lookup t = some k → fd_ok RJ1 7 t k 0 (.int) := fd_cons ⟨_, _, _, "java/util/TreeMap", cl_18, by decide, Or.inl q202, Or.inl rfl, rfl, fun _ => rfl, fun h => absurd h (by decide)⟩ (fd_nil)
theorem fl_J1_13 : ∀ t k, ([(18, 5)] : List (Nat × Nat)).lookup t = some k → fd_ok RJ1 13 t k 0 (.int) := fd_cons ⟨_, _, _, "java/util/TreeMap", cl_18, by decide, Or.inl q203, Or.inl rfl, rfl, fun _ => rfl, fun h => absurd h (by decide)⟩ (fd_nil)
theorem fl_J1_16 : ∀ t k, ([(18, 2)] : List (Nat × Nat)).lookup t = some k → fd_ok RJ1 16 t k 1 (.object "java/util/Comparator") := fd_cons ⟨_, _, _, "java/util/TreeMap", cl_18, by decide, Or.inl q200, Or.inl rfl, rfl, fun _ => rfl, fun _ => rfl⟩ (fd_nil)
theorem fl_J7_15 : ∀ t k, ([(29, 0)] : List (Nat × Nat)).lookup t = some k → fd_ok RJ7 15 t k 0 (.array (.byte)) := fd_cons ⟨_, _, _, "java/lang/AbstractStringBuilder", cl_29, by decide, Or.inl q355, Or.inl rfl, rfl, fun _ => rfl, fun h => absurd h (by decide)⟩ (fd_nil)
theorem fl_J7_22 : ∀ t k, ([(29, 1)] : List (Nat × Nat)).lookup t = some k → fd_ok RJ7 22 t k 0 (.byte) := fd_cons ⟨_, _, _, "java/lang/AbstractStringBuilder", cl_29, by decide, Or.inl q356, Or.inl rfl, rfl, fun _ => rfl, fun h => absurd h (by decide)⟩ (fd_nil)
theorem fl_J6_7 : ∀ t k, ([(24, 1)] : List (Nat × Nat)).lookup t = some k → fd_ok RJ6 7 t k 0 (.int) := fd_cons ⟨_, _, _, "java/util/LinkedList", cl_24, by decide, Or.inl q325, Or.inl rfl, rfl, fun _ => rfl, fun h => absurd h (by decide)⟩ (fd_nil)
theorem fl_X12_10r : ∀ t k, ([(8, 0)] : List (Nat × Nat)).lookup t = some k → fd_ok RX12 10 t k 2 (.object "java/util/List") := fd_cons ⟨_, _, _, "LionGate$Feeding", cl_8, by decide, Or.inl q2768, Or.inl rfl, rfl, fun h => absurd h (by decide), fun h => absurd h (by decide)⟩ (fd_nil)
theorem fl_X12_59r : ∀ t k, ([(5, 1)] : List (Nat × Nat)).lookup t = some k → fd_ok RX12 59 t k 2 (.int) := fd_cons ⟨_, _, _, "LionGate$Lion", cl_5, by decide, Or.inr ⟨_, q2009⟩, Or.inl rfl, rfl, fun h => absurd h (by decide), fun h => absurd h (by decide)⟩ (fd_nil)
theorem fl_X12_62r : ∀ t k, ([(5, 2)] : List (Nat × Nat)).lookup t = some k → fd_ok RX12 62 t k 2 (.int) := fd_cons ⟨_, _, _, "LionGate$Lion", cl_5, by decide, Or.inr ⟨_, q2014⟩, Or.inl rfl, rfl, fun h => absurd h (by decide), fun h => absurd h (by decide)⟩ (fd_nil)
theorem fl_X12_16r : ∀ t k, ([(8, 1)] : List (Nat × Nat)).lookup t = some k → fd_ok RX12 16 t k 2 (.int) := fd_cons ⟨_, _, _, "LionGate$Feeding", cl_8, by decide, Or.inl q2769, Or.inl rfl, rfl, fun h => absurd h (by decide), fun h => absurd h (by decide)⟩ (fd_nil)
theorem fl_J4_48 : ∀ t k, ([(16, 2)] : List (Nat × Nat)).lookup t = some k → fd_ok RJ4 48 t k 0 (.int) := fd_cons ⟨_, _, _, "java/util/ArrayList", cl_16, by decide, Or.inl q251, Or.inl rfl, rfl, fun _ => rfl, fun h => absurd h (by decide)⟩ (fd_nil)
theorem fl_X2_12r : ∀ t k, ([(2, 0)] : List (Nat × Nat)).lookup t = some k → fd_ok RX2 12 t k 2 (.object "java/util/TreeMap") := fd_cons ⟨_, _, _, "LionGate$Queue", cl_2, by decide, Or.inl q272, Or.inl rfl, rfl, fun h => absurd h (by decide), fun h => absurd h (by decide)⟩ (fd_nil)
theorem fl_X2_82 : ∀ t k, ([(2, 7)] : List (Nat × Nat)).lookup t = some k → fd_ok RX2 82 t k 0 (.int) := fd_cons ⟨_, _, _, "LionGate$Queue", cl_2, by decide, Or.inl q285, Or.inl rfl, rfl, fun _ => rfl, fun h => absurd h (by decide)⟩ (fd_nil)
theorem fl_X12_10 : ∀ t k, ([(8, 0)] : List (Nat × Nat)).lookup t = some k → fd_ok RX12 10 t k 1 (.object "java/util/List") := fd_cons ⟨_, _, _, "LionGate$Feeding", cl_8, by decide, Or.inl q2768, Or.inl rfl, rfl, fun _ => rfl, fun _ => rfl⟩ (fd_nil)
theorem fl_X12_16 : ∀ t k, ([(8, 1)] : List (Nat × Nat)).lookup t = some k → fd_ok RX12 16 t k 1 (.int) := fd_cons ⟨_, _, _, "LionGate$Feeding", cl_8, by decide, Or.inl q2769, Or.inl rfl, rfl, fun _ => rfl, fun _ => rfl⟩ (fd_nil)
theorem fl_X13_7r : ∀ t k, ([(5, 2)] : List (Nat × Nat)).lookup t = some k → fd_ok RX13 7 t k 2 (.int) := fd_cons ⟨_, _, _, "LionGate$Lion", cl_5, by decide, Or.inr ⟨_, q2013⟩, Or.inl rfl, rfl, fun h => absurd h (by decide), fun h => absurd h (by decide)⟩ (fd_nil)
theorem fl_X13_13r : ∀ t k, ([(5, 0)] : List (Nat × Nat)).lookup t = some k → fd_ok RX13 13 t k 2 (.int) := fd_cons ⟨_, _, _, "LionGate$Lion", cl_5, by decide, Or.inr ⟨_, q2004⟩, Or.inl rfl, rfl, fun h => absurd h (by decide), fun h => absurd h (by decide)⟩ (fd_nil)
theorem fl_J4_63 : ∀ t k, ([(16, 0)] : List (Nat × Nat)).lookup t = some k → fd_ok RJ4 63 t k 0 (.int) := fd_cons ⟨_, _, _, "java/util/ArrayList", cl_16, by decide, Or.inl q259, Or.inr q256, rfl, fun _ => rfl, fun h => absurd h (by decide)⟩ (fd_nil)
theorem fl_J33_26 : ∀ t k, ([(22, 0), (23, 0)] : List (Nat × Nat)).lookup t = some k → fd_ok RJ33 26 t k 0 (.object "java/util/TreeMap$Entry") := fd_cons ⟨_, _, _, "java/util/TreeMap$PrivateEntryIterator", cl_22, by decide, Or.inl q977, Or.inl rfl, rfl, fun _ => rfl, fun h => absurd h (by decide)⟩ (fd_cons ⟨_, _, _, "java/util/TreeMap$PrivateEntryIterator", cl_23, by decide, Or.inl q977, Or.inl rfl, rfl, fun _ => rfl, fun h => absurd h (by decide)⟩ (fd_nil))
theorem fl_J36_13 : ∀ t k, ([(19, 1)] : List (Nat × Nat)).lookup t = some k → fd_ok RJ36 13 t k 0 (.object "java/lang/Object") := fd_cons ⟨_, _, _, "java/util/TreeMap$Entry", cl_19, by decide, Or.inl q1697, Or.inl rfl, rfl, fun _ => rfl, fun h => absurd h (by decide)⟩ (fd_nil)
theorem fl_J33_1r : ∀ t k, ([(22, 3), (23, 3)] : List (Nat × Nat)).lookup t = some k → fd_ok RJ33 1 t k 2 (.object "java/util/TreeMap") := fd_cons ⟨_, _, _, "java/util/TreeMap$PrivateEntryIterator", cl_22, by decide, Or.inl q980, Or.inl rfl, rfl, fun h => absurd h (by decide), fun h => absurd h (by decide)⟩ (fd_cons ⟨_, _, _, "java/util/TreeMap$PrivateEntryIterator", cl_23, by decide, Or.inl q980, Or.inl rfl, rfl, fun h => absurd h (by decide), fun h => absurd h (by decide)⟩ (fd_nil))
theorem fl_J33_13 : ∀ t k, ([(18, 5)] : List (Nat × Nat)).lookup t = some k → fd_ok RJ33 13 t k 0 (.int) := fd_cons ⟨_, _, _, "java/util/TreeMap", cl_18, by decide, Or.inr ⟨_, q204⟩, Or.inl rfl, rfl, fun _ => rfl, fun h => absurd h (by decide)⟩ (fd_nil)
theorem fl_J33_19 : ∀ t k, ([(22, 2), (23, 2)] : List (Nat × Nat)).lookup t = some k → fd_ok RJ33 19 t k 0 (.int) := fd_cons ⟨_, _, _, "java/util/TreeMap$PrivateEntryIterator", cl_22, by decide, Or.inl q979, Or.inl rfl, rfl, fun _ => rfl, fun h => absurd h (by decide)⟩ (fd_cons ⟨_, _, _, "java/util/TreeMap$PrivateEntryIterator", cl_23, by decide, Or.inl q979, Or.inl rfl, rfl, fun _ => rfl, fun h => absurd h (by decide)⟩ (fd_nil))
theorem fl_J33_22 : ∀ t k, ([(22, 1), (23, 1)] : List (Nat × Nat)).lookup t = some k → fd_ok RJ33 22 t k 0 (.object "java/util/TreeMap$Entry") := fd_cons ⟨_, _, _, "java/util/TreeMap$PrivateEntryIterator", cl_22, by decide, Or.inl q978, Or.inl rfl, rfl, fun _ => rfl, fun h => absurd h (by decide)⟩ (fd_cons ⟨_, _, _, "java/util/TreeMap$PrivateEntryIterator", cl_23, by decide, Or.inl q978, Or.inl rfl, rfl, fun _ => rfl, fun h => absurd h (by decide)⟩ (fd_nil))
theorem fl_J1_111 : ∀ t k, ([(19, 2)] : List (Nat × Nat)).lookup t = some k → fd_ok RJ1 111 t k 0 (.object "java/util/TreeMap$Entry") := fd_cons ⟨_, _, _, "java/util/TreeMap$Entry", cl_19, by decide, Or.inl q1700, Or.inl rfl, rfl, fun _ => rfl, fun h => absurd h (by decide)⟩ (fd_nil)
theorem fl_J1_114 : ∀ t k, ([(19, 3)] : List (Nat × Nat)).lookup t = some k → fd_ok RJ1 114 t k 0 (.object "java/util/TreeMap$Entry") := fd_cons ⟨_, _, _, "java/util/TreeMap$Entry", cl_19, by decide, Or.inl q1702, Or.inl rfl, rfl, fun _ => rfl, fun h => absurd h (by decide)⟩ (fd_nil)
theorem fl_J1_124 : ∀ t k, ([(19, 4)] : List (Nat × Nat)).lookup t = some k → fd_ok RJ1 124 t k 0 (.object "java/util/TreeMap$Entry") := fd_cons ⟨_, _, _, "java/util/TreeMap$Entry", cl_19, by decide, Or.inl q1704, Or.inl rfl, rfl, fun _ => rfl, fun h => absurd h (by decide)⟩ (fd_nil)
theorem fl_J11_1r : ∀ t k, ([(20, 0)] : List (Nat × Nat)).lookup t = some k → fd_ok RJ11 1 t k 2 (.object "java/util/TreeMap") := fd_cons ⟨_, _, _, "java/util/TreeMap$Values", cl_20, by decide, Or.inl q422, Or.inl rfl, rfl, fun h => absurd h (by decide), fun h => absurd h (by decide)⟩ (fd_nil)
theorem fl_J1_101 : ∀ t k, ([(18, 3)] : List (Nat × Nat)).lookup t = some k → fd_ok RJ1 101 t k 0 (.object "java/util/TreeMap$Entry") := fd_cons ⟨_, _, _, "java/util/TreeMap", cl_18, by decide, Or.inl q201, Or.inl rfl, rfl, fun _ => rfl, fun h => absurd h (by decide)⟩ (fd_nil)
theorem fl_J33_1 : ∀ t k, ([(22, 3), (23, 3)] : List (Nat × Nat)).lookup t = some k → fd_ok RJ33 1 t k 1 (.object "java/util/TreeMap") := fd_cons ⟨_, _, _, "java/util/TreeMap$PrivateEntryIterator", cl_22, by decide, Or.inl q980, Or.inl rfl, rfl, fun _ => rfl, fun _ => rfl⟩ (fd_cons ⟨_, _, _, "java/util/TreeMap$PrivateEntryIterator", cl_23, by decide, Or.inl q980, Or.inl rfl, rfl, fun _ => rfl, fun _ => rfl⟩ (fd_nil))
theorem fl_J1_233 : ∀ t k, ([(18, 1)] : List (Nat × Nat)).lookup t = some k → fd_ok RJ1 233 t k 0 (.object "java/util/Collection") := fd_cons ⟨_, _, _, "java/util/TreeMap", cl_18, by decide, Or.inl q207, Or.inr q208, rfl, fun _ => rfl, fun h => absurd h (by decide)⟩ (fd_nil)
theorem fl_J11_1 : ∀ t k, ([(20, 0)] : List (Nat × Nat)).lookup t = some k → fd_ok RJ11 1 t k 1 (.object "java/util/TreeMap") := fd_cons ⟨_, _, _, "java/util/TreeMap$Values", cl_20, by decide, Or.inl q422, Or.inl rfl, rfl, fun _ => rfl, fun _ => rfl⟩ (fd_nil)
theorem fl_X1_337 : ∀ t k, ([(2, 5)] : List (Nat × Nat)).lookup t = some k → fd_ok RX1 337 t k 0 (.int) := fd_cons ⟨_, _, _, "LionGate$Queue", cl_2, by decide, Or.inr ⟨_, q282⟩, Or.inl rfl, rfl, fun _ => rfl, fun h => absurd h (by decide)⟩ (fd_nil)
theorem fl_X1_325 : ∀ t k, ([(2, 7)] : List (Nat × Nat)).lookup t = some k → fd_ok RX1 325 t k 0 (.int) := fd_cons ⟨_, _, _, "LionGate$Queue", cl_2, by decide, Or.inr ⟨_, q286⟩, Or.inl rfl, rfl, fun _ => rfl, fun h => absurd h (by decide)⟩ (fd_nil)
theorem fl_X2_70 : ∀ t k, ([(2, 3)] : List (Nat × Nat)).lookup t = some k → fd_ok RX2 70 t k 0 (.int) := fd_cons ⟨_, _, _, "LionGate$Queue", cl_2, by decide, Or.inl q278, Or.inl rfl, rfl, fun _ => rfl, fun h => absurd h (by decide)⟩ (fd_nil)
theorem fl_J14_1 : ∀ t k, ([(17, 3)] : List (Nat × Nat)).lookup t = some k → fd_ok RJ14 1 t k 1 (.object "java/util/ArrayList") := fd_cons ⟨_, _, _, "java/util/ArrayList$Itr", cl_17, by decide, Or.inl q480, Or.inl rfl, rfl, fun _ => rfl, fun _ => rfl⟩ (fd_nil)
theorem fl_J14_13 : ∀ t k, ([(17, 1)] : List (Nat × Nat)).lookup t = some k → fd_ok RJ14 13 t k 0 (.int) := fd_cons ⟨_, _, _, "java/util/ArrayList$Itr", cl_17, by decide, Or.inl q478, Or.inl rfl, rfl, fun _ => rfl, fun h => absurd h (by decide)⟩ (fd_nil)
theorem fl_J14_1r : ∀ t k, ([(17, 3)] : List (Nat × Nat)).lookup t = some k → fd_ok RJ14 1 t k 2 (.object "java/util/ArrayList") := fd_cons ⟨_, _, _, "java/util/ArrayList$Itr", cl_17, by decide, Or.inl q480, Or.inl rfl, rfl, fun h => absurd h (by decide), fun h => absurd h (by decide)⟩ (fd_nil)
theorem fl_J14_17 : ∀ t k, ([(16, 0)] : List (Nat × Nat)).lookup t = some k → fd_ok RJ14 17 t k 0 (.int) := fd_cons ⟨_, _, _, "java/util/ArrayList", cl_16, by decide, Or.inl q255, Or.inr q256, rfl, fun _ => rfl, fun h => absurd h (by decide)⟩ (fd_nil)
theorem fl_J14_22 : ∀ t k, ([(17, 2)] : List (Nat × Nat)).lookup t = some k → fd_ok RJ14 22 t k 0 (.int) := fd_cons ⟨_, _, _, "java/util/ArrayList$Itr", cl_17, by decide, Or.inl q479, Or.inl rfl, rfl, fun _ => rfl, fun h => absurd h (by decide)⟩ (fd_nil)
theorem fl_J14_25 : ∀ t k, ([(17, 0)] : List (Nat × Nat)).lookup t = some k → fd_ok RJ14 25 t k 0 (.int) := fd_cons ⟨_, _, _, "java/util/ArrayList$Itr", cl_17, by decide, Or.inl q477, Or.inl rfl, rfl, fun _ => rfl, fun h => absurd h (by decide)⟩ (fd_nil)
theorem fl_J14_28 : ∀ t k, ([(16, 2)] : List (Nat × Nat)).lookup t = some k → fd_ok RJ14 28 t k 0 (.int) := fd_cons ⟨_, _, _, "java/util/ArrayList", cl_16, by decide, Or.inr ⟨_, q250⟩, Or.inl rfl, rfl, fun _ => rfl, fun h => absurd h (by decide)⟩ (fd_nil)
theorem fl_J14_37 : ∀ t k, ([(16, 1)] : List (Nat × Nat)).lookup t = some k → fd_ok RJ14 37 t k 0 (.array (.object "java/lang/Object")) := fd_cons ⟨_, _, _, "java/util/ArrayList", cl_16, by decide, Or.inl q249, Or.inl rfl, rfl, fun _ => rfl, fun h => absurd h (by decide)⟩ (fd_nil)
theorem fl_J47_17 : ∀ t k, ([(27, 0)] : List (Nat × Nat)).lookup t = some k → fd_ok RJ47 17 t k 0 (.array (.object "java/lang/Object")) := fd_cons ⟨_, _, _, "java/util/PriorityQueue", cl_27, by decide, Or.inl q2813, Or.inl rfl, rfl, fun _ => rfl, fun h => absurd h (by decide)⟩ (fd_nil)
theorem fl_J47_21 : ∀ t k, ([(27, 2)] : List (Nat × Nat)).lookup t = some k → fd_ok RJ47 21 t k 1 (.object "java/util/Comparator") := fd_cons ⟨_, _, _, "java/util/PriorityQueue", cl_27, by decide, Or.inl q2816, Or.inl rfl, rfl, fun _ => rfl, fun _ => rfl⟩ (fd_nil)
theorem fl_J47_58 : ∀ t k, ([(27, 1)] : List (Nat × Nat)).lookup t = some k → fd_ok RJ47 58 t k 0 (.int) := fd_cons ⟨_, _, _, "java/util/PriorityQueue", cl_27, by decide, Or.inl q2815, Or.inl rfl, rfl, fun _ => rfl, fun h => absurd h (by decide)⟩ (fd_nil)
theorem fl_J47_93 : ∀ t k, ([(27, 3)] : List (Nat × Nat)).lookup t = some k → fd_ok RJ47 93 t k 0 (.int) := fd_cons ⟨_, _, _, "java/util/PriorityQueue", cl_27, by decide, Or.inl q2818, Or.inl rfl, rfl, fun _ => rfl, fun h => absurd h (by decide)⟩ (fd_nil)
theorem fl_J47_21r : ∀ t k, ([(27, 2)] : List (Nat × Nat)).lookup t = some k → fd_ok RJ47 21 t k 2 (.object "java/util/Comparator") := fd_cons ⟨_, _, _, "java/util/PriorityQueue", cl_27, by decide, Or.inl q2816, Or.inl rfl, rfl, fun h => absurd h (by decide), fun h => absurd h (by decide)⟩ (fd_nil)
theorem fl_X14_7r : ∀ t k, ([(5, 1)] : List (Nat × Nat)).lookup t = some k → fd_ok RX14 7 t k 2 (.int) := fd_cons ⟨_, _, _, "LionGate$Lion", cl_5, by decide, Or.inr ⟨_, q2008⟩, Or.inl rfl, rfl, fun h => absurd h (by decide), fun h => absurd h (by decide)⟩ (fd_nil)
theorem fl_X14_13r : ∀ t k, ([(5, 0)] : List (Nat × Nat)).lookup t = some k → fd_ok RX14 13 t k 2 (.int) := fd_cons ⟨_, _, _, "LionGate$Lion", cl_5, by decide, Or.inr ⟨_, q2005⟩, Or.inl rfl, rfl, fun h => absurd h (by decide), fun h => absurd h (by decide)⟩ (fd_nil)
theorem fl_X3_66r : ∀ t k, ([(4, 1)] : List (Nat × Nat)).lookup t = some k → fd_ok RX3 66 t k 2 (.int) := fd_cons ⟨_, _, _, "LionGate$Keeper", cl_4, by decide, Or.inr ⟨_, q2497⟩, Or.inl rfl, rfl, fun h => absurd h (by decide), fun h => absurd h (by decide)⟩ (fd_nil)
theorem fl_X3_12r : ∀ t k, ([(3, 0)] : List (Nat × Nat)).lookup t = some k → fd_ok RX3 12 t k 2 (.object "java/util/List") := fd_cons ⟨_, _, _, "LionGate$Keepers", cl_3, by decide, Or.inl q267, Or.inl rfl, rfl, fun h => absurd h (by decide), fun h => absurd h (by decide)⟩ (fd_nil)
theorem fl_X11_7r : ∀ t k, ([(4, 0)] : List (Nat × Nat)).lookup t = some k → fd_ok RX11 7 t k 2 (.int) := fd_cons ⟨_, _, _, "LionGate$Keeper", cl_4, by decide, Or.inl q2493, Or.inl rfl, rfl, fun h => absurd h (by decide), fun h => absurd h (by decide)⟩ (fd_nil)
theorem fl_X11_13r : ∀ t k, ([(4, 1)] : List (Nat × Nat)).lookup t = some k → fd_ok RX11 13 t k 2 (.int) := fd_cons ⟨_, _, _, "LionGate$Keeper", cl_4, by decide, Or.inl q2496, Or.inl rfl, rfl, fun h => absurd h (by decide), fun h => absurd h (by decide)⟩ (fd_nil)
theorem fl_X3_62r : ∀ t k, ([(4, 0)] : List (Nat × Nat)).lookup t = some k → fd_ok RX3 62 t k 2 (.int) := fd_cons ⟨_, _, _, "LionGate$Keeper", cl_4, by decide, Or.inr ⟨_, q2494⟩, Or.inl rfl, rfl, fun h => absurd h (by decide), fun h => absurd h (by decide)⟩ (fd_nil)
theorem fl_J52_7 : ∀ t k, ([(28, 1)] : List (Nat × Nat)).lookup t = some k → fd_ok RJ52 7 t k 0 (.int) := fd_cons ⟨_, _, _, "java/util/BitSet", cl_28, by decide, Or.inl q2942, Or.inl rfl, rfl, fun _ => rfl, fun h => absurd h (by decide)⟩ (fd_nil)
theorem fl_J52_24 : ∀ t k, ([(28, 2)] : List (Nat × Nat)).lookup t = some k → fd_ok RJ52 24 t k 0 (.boolean) := fd_cons ⟨_, _, _, "java/util/BitSet", cl_28, by decide, Or.inl q2943, Or.inl rfl, rfl, fun _ => rfl, fun h => absurd h (by decide)⟩ (fd_nil)
theorem fl_J52_11 : ∀ t k, ([(28, 0)] : List (Nat × Nat)).lookup t = some k → fd_ok RJ52 11 t k 0 (.array (.long)) := fd_cons ⟨_, _, _, "java/util/BitSet", cl_28, by decide, Or.inl q2941, Or.inl rfl, rfl, fun _ => rfl, fun h => absurd h (by decide)⟩ (fd_nil)
theorem fl_X2_127r : ∀ t k, ([(7, 0)] : List (Nat × Nat)).lookup t = some k → fd_ok RX2 127 t k 2 (.object "LionGate$Ticket") := fd_cons ⟨_, _, _, "LionGate$Node", cl_7, by decide, Or.inr ⟨_, q2394⟩, Or.inl rfl, rfl, fun h => absurd h (by decide), fun h => absurd h (by decide)⟩ (fd_nil)
theorem fl_X2_98r : ∀ t k, ([(6, 1)] : List (Nat × Nat)).lookup t = some k → fd_ok RX2 98 t k 2 (.int) := fd_cons ⟨_, _, _, "LionGate$Ticket", cl_6, by decide, Or.inr ⟨_, q2044⟩, Or.inl rfl, rfl, fun h => absurd h (by decide), fun h => absurd h (by decide)⟩ (fd_nil)
theorem fl_X2_66 : ∀ t k, ([(2, 2)] : List (Nat × Nat)).lookup t = some k → fd_ok RX2 66 t k 0 (.object "LionGate$Node") := fd_cons ⟨_, _, _, "LionGate$Queue", cl_2, by decide, Or.inl q276, Or.inl rfl, rfl, fun _ => rfl, fun h => absurd h (by decide)⟩ (fd_nil)
theorem fl_X10_20r : ∀ t k, ([(7, 1)] : List (Nat × Nat)).lookup t = some k → fd_ok RX10 20 t k 2 (.object "LionGate$Node") := fd_cons ⟨_, _, _, "LionGate$Node", cl_7, by decide, Or.inl q2395, Or.inl rfl, rfl, fun h => absurd h (by decide), fun h => absurd h (by decide)⟩ (fd_nil)
theorem fl_X10_24r : ∀ t k, ([(7, 2)] : List (Nat × Nat)).lookup t = some k → fd_ok RX10 24 t k 2 (.object "LionGate$Node") := fd_cons ⟨_, _, _, "LionGate$Node", cl_7, by decide, Or.inl q2397, Or.inl rfl, rfl, fun h => absurd h (by decide), fun h => absurd h (by decide)⟩ (fd_nil)
theorem fl_X10_16r : ∀ t k, ([(7, 0)] : List (Nat × Nat)).lookup t = some k → fd_ok RX10 16 t k 2 (.object "LionGate$Ticket") := fd_cons ⟨_, _, _, "LionGate$Node", cl_7, by decide, Or.inl q2392, Or.inl rfl, rfl, fun h => absurd h (by decide), fun h => absurd h (by decide)⟩ (fd_nil)
theorem fl_X10_24 : ∀ t k, ([(7, 2)] : List (Nat × Nat)).lookup t = some k → fd_ok RX10 24 t k 1 (.object "LionGate$Node") := fd_cons ⟨_, _, _, "LionGate$Node", cl_7, by decide, Or.inl q2397, Or.inl rfl, rfl, fun _ => rfl, fun _ => rfl⟩ (fd_nil)
theorem fl_X10_27 : ∀ t k, ([(7, 3)] : List (Nat × Nat)).lookup t = some k → fd_ok RX10 27 t k 1 (.int) := fd_cons ⟨_, _, _, "LionGate$Node", cl_7, by decide, Or.inl q2399, Or.inl rfl, rfl, fun _ => rfl, fun _ => rfl⟩ (fd_nil)
theorem fl_X10_20 : ∀ t k, ([(7, 1)] : List (Nat × Nat)).lookup t = some k → fd_ok RX10 20 t k 1 (.object "LionGate$Node") := fd_cons ⟨_, _, _, "LionGate$Node", cl_7, by decide, Or.inl q2395, Or.inl rfl, rfl, fun _ => rfl, fun _ => rfl⟩ (fd_nil)
theorem fl_X10_16 : ∀ t k, ([(7, 0)] : List (Nat × Nat)).lookup t = some k → fd_ok RX10 16 t k 1 (.object "LionGate$Ticket") := fd_cons ⟨_, _, _, "LionGate$Node", cl_7, by decide, Or.inl q2392, Or.inl rfl, rfl, fun _ => rfl, fun _ => rfl⟩ (fd_nil)
theorem fl_X10_27r : ∀ t k, ([(7, 3)] : List (Nat × Nat)).lookup t = some k → fd_ok RX10 27 t k 2 (.int) := fd_cons ⟨_, _, _, "LionGate$Node", cl_7, by decide, Or.inl q2399, Or.inl rfl, rfl, fun h => absurd h (by decide), fun h => absurd h (by decide)⟩ (fd_nil)
theorem fl_X9_16r : ∀ t k, ([(6, 2)] : List (Nat × Nat)).lookup t = some k → fd_ok RX9 16 t k 2 (.int) := fd_cons ⟨_, _, _, "LionGate$Ticket", cl_6, by decide, Or.inl q2045, Or.inl rfl, rfl, fun h => absurd h (by decide), fun h => absurd h (by decide)⟩ (fd_nil)
theorem fl_X9_7r : ∀ t k, ([(6, 0)] : List (Nat × Nat)).lookup t = some k → fd_ok RX9 7 t k 2 (.int) := fd_cons ⟨_, _, _, "LionGate$Ticket", cl_6, by decide, Or.inl q2039, Or.inl rfl, rfl, fun h => absurd h (by decide), fun h => absurd h (by decide)⟩ (fd_nil)
theorem fl_X2_111r : ∀ t k, ([(5, 3)] : List (Nat × Nat)).lookup t = some k → fd_ok RX2 111 t k 2 (.object "LionGate$Ticket") := fd_cons ⟨_, _, _, "LionGate$Lion", cl_5, by decide, Or.inr ⟨_, q2018⟩, Or.inl rfl, rfl, fun h => absurd h (by decide), fun h => absurd h (by decide)⟩ (fd_nil)
theorem fl_X2_115r : ∀ t k, ([(6, 0)] : List (Nat × Nat)).lookup t = some k → fd_ok RX2 115 t k 2 (.int) := fd_cons ⟨_, _, _, "LionGate$Ticket", cl_6, by decide, Or.inr ⟨_, q2040⟩, Or.inl rfl, rfl, fun h => absurd h (by decide), fun h => absurd h (by decide)⟩ (fd_nil)
theorem fl_J27_205 : ∀ t k, ([(31, 0)] : List (Nat × Nat)).lookup t = some k → fd_ok RJ27 205 t k 1 (.int) := fd_cons ⟨_, _, _, "java/lang/Integer", cl_31, by decide, Or.inl q1444, Or.inl rfl, rfl, fun _ => rfl, fun _ => rfl⟩ (fd_nil)
theorem fl_J1_105 : ∀ t k, ([(19, 0)] : List (Nat × Nat)).lookup t = some k → fd_ok RJ1 105 t k 0 (.object "java/lang/Object") := fd_cons ⟨_, _, _, "java/util/TreeMap$Entry", cl_19, by decide, Or.inl q1695, Or.inl rfl, rfl, fun _ => rfl, fun h => absurd h (by decide)⟩ (fd_nil)
theorem fl_J1_16r : ∀ t k, ([(18, 2)] : List (Nat × Nat)).lookup t = some k → fd_ok RJ1 16 t k 2 (.object "java/util/Comparator") := fd_cons ⟨_, _, _, "java/util/TreeMap", cl_18, by decide, Or.inl q200, Or.inl rfl, rfl, fun h => absurd h (by decide), fun h => absurd h (by decide)⟩ (fd_nil)
theorem fl_J27_205r : ∀ t k, ([(31, 0)] : List (Nat × Nat)).lookup t = some k → fd_ok RJ27 205 t k 2 (.int) := fd_cons ⟨_, _, _, "java/lang/Integer", cl_31, by decide, Or.inl q1444, Or.inl rfl, rfl, fun h => absurd h (by decide), fun h => absurd h (by decide)⟩ (fd_nil)
theorem fl_J1_58 : ∀ t k, ([(19, 1)] : List (Nat × Nat)).lookup t = some k → fd_ok RJ1 58 t k 0 (.object "java/lang/Object") := fd_cons ⟨_, _, _, "java/util/TreeMap$Entry", cl_19, by decide, Or.inl q1698, Or.inl rfl, rfl, fun _ => rfl, fun h => absurd h (by decide)⟩ (fd_nil)
theorem fl_X2_48r : ∀ t k, ([(5, 0)] : List (Nat × Nat)).lookup t = some k → fd_ok RX2 48 t k 2 (.int) := fd_cons ⟨_, _, _, "LionGate$Lion", cl_5, by decide, Or.inr ⟨_, q2006⟩, Or.inl rfl, rfl, fun h => absurd h (by decide), fun h => absurd h (by decide)⟩ (fd_nil)
theorem fl_X2_76 : ∀ t k, ([(2, 5)] : List (Nat × Nat)).lookup t = some k → fd_ok RX2 76 t k 0 (.int) := fd_cons ⟨_, _, _, "LionGate$Queue", cl_2, by decide, Or.inl q281, Or.inl rfl, rfl, fun _ => rfl, fun h => absurd h (by decide)⟩ (fd_nil)
theorem fl_X2_79 : ∀ t k, ([(2, 6)] : List (Nat × Nat)).lookup t = some k → fd_ok RX2 79 t k 0 (.int) := fd_cons ⟨_, _, _, "LionGate$Queue", cl_2, by decide, Or.inl q283, Or.inl rfl, rfl, fun _ => rfl, fun h => absurd h (by decide)⟩ (fd_nil)
theorem fl_X2_85 : ∀ t k, ([(2, 8)] : List (Nat × Nat)).lookup t = some k → fd_ok RX2 85 t k 0 (.int) := fd_cons ⟨_, _, _, "LionGate$Queue", cl_2, by decide, Or.inl q287, Or.inl rfl, rfl, fun _ => rfl, fun h => absurd h (by decide)⟩ (fd_nil)
theorem fl_X1_272 : ∀ t k, ([(2, 1)] : List (Nat × Nat)).lookup t = some k → fd_ok RX1 272 t k 0 (.object "LionGate$Keepers") := fd_cons ⟨_, _, _, "LionGate$Queue", cl_2, by decide, Or.inr ⟨_, q275⟩, Or.inl rfl, rfl, fun _ => rfl, fun h => absurd h (by decide)⟩ (fd_nil)
theorem fl_X1_331 : ∀ t k, ([(2, 9)] : List (Nat × Nat)).lookup t = some k → fd_ok RX1 331 t k 0 (.int) := fd_cons ⟨_, _, _, "LionGate$Queue", cl_2, by decide, Or.inr ⟨_, q290⟩, Or.inl rfl, rfl, fun _ => rfl, fun h => absurd h (by decide)⟩ (fd_nil)
theorem fl_X1_172r : ∀ t k, ([(2, 0)] : List (Nat × Nat)).lookup t = some k → fd_ok RX1 172 t k 2 (.object "java/util/TreeMap") := fd_cons ⟨_, _, _, "LionGate$Queue", cl_2, by decide, Or.inr ⟨_, q273⟩, Or.inl rfl, rfl, fun h => absurd h (by decide), fun h => absurd h (by decide)⟩ (fd_nil)
theorem fl_X1_334 : ∀ t k, ([(2, 10)] : List (Nat × Nat)).lookup t = some k → fd_ok RX1 334 t k 0 (.int) := fd_cons ⟨_, _, _, "LionGate$Queue", cl_2, by decide, Or.inr ⟨_, q292⟩, Or.inl rfl, rfl, fun _ => rfl, fun h => absurd h (by decide)⟩ (fd_nil)
theorem fl_X1_75r : ∀ t k, ([(0, 2)] : List (Nat × Nat)).lookup t = some k → fd_ok RX1 75 t k 2 (.object "java/util/LinkedList") := fd_cons ⟨_, _, _, "LionGate", cl_0, by decide, Or.inl q373, Or.inl rfl, rfl, fun h => absurd h (by decide), fun h => absurd h (by decide)⟩ (fd_nil)
theorem fl_J6_33 : ∀ t k, ([(24, 0)] : List (Nat × Nat)).lookup t = some k → fd_ok RJ6 33 t k 0 (.int) := fd_cons ⟨_, _, _, "java/util/LinkedList", cl_24, by decide, Or.inl q258, Or.inr q254, rfl, fun _ => rfl, fun h => absurd h (by decide)⟩ (fd_nil)
theorem fl_J6_27 : ∀ t k, ([(24, 3)] : List (Nat × Nat)).lookup t = some k → fd_ok RJ6 27 t k 0 (.object "java/util/LinkedList$Node") := fd_cons ⟨_, _, _, "java/util/LinkedList", cl_24, by decide, Or.inl q328, Or.inl rfl, rfl, fun _ => rfl, fun h => absurd h (by decide)⟩ (fd_nil)
theorem fl_J6_18 : ∀ t k, ([(24, 2)] : List (Nat × Nat)).lookup t = some k → fd_ok RJ6 18 t k 0 (.object "java/util/LinkedList$Node") := fd_cons ⟨_, _, _, "java/util/LinkedList", cl_24, by decide, Or.inl q327, Or.inl rfl, rfl, fun _ => rfl, fun h => absurd h (by decide)⟩ (fd_nil)
theorem fl_J6_36 : ∀ t k, ([(25, 1)] : List (Nat × Nat)).lookup t = some k → fd_ok RJ6 36 t k 0 (.object "java/util/LinkedList$Node") := fd_cons ⟨_, _, _, "java/util/LinkedList$Node", cl_25, by decide, Or.inl q1852, Or.inl rfl, rfl, fun _ => rfl, fun h => absurd h (by decide)⟩ (fd_nil)
theorem fl_J43_7 : ∀ t k, ([(25, 0)] : List (Nat × Nat)).lookup t = some k → fd_ok RJ43 7 t k 0 (.object "java/lang/Object") := fd_cons ⟨_, _, _, "java/util/LinkedList$Node", cl_25, by decide, Or.inl q1847, Or.inl rfl, rfl, fun _ => rfl, fun h => absurd h (by decide)⟩ (fd_nil)
theorem fl_J43_13 : ∀ t k, ([(25, 1)] : List (Nat × Nat)).lookup t = some k → fd_ok RJ43 13 t k 0 (.object "java/util/LinkedList$Node") := fd_cons ⟨_, _, _, "java/util/LinkedList$Node", cl_25, by decide, Or.inl q1850, Or.inl rfl, rfl, fun _ => rfl, fun h => absurd h (by decide)⟩ (fd_nil)
theorem fl_J43_17 : ∀ t k, ([(25, 2)] : List (Nat × Nat)).lookup t = some k → fd_ok RJ43 17 t k 0 (.object "java/util/LinkedList$Node") := fd_cons ⟨_, _, _, "java/util/LinkedList$Node", cl_25, by decide, Or.inl q1853, Or.inl rfl, rfl, fun _ => rfl, fun h => absurd h (by decide)⟩ (fd_nil)
theorem fl_J6_39 : ∀ t k, ([(25, 0)] : List (Nat × Nat)).lookup t = some k → fd_ok RJ6 39 t k 0 (.object "java/lang/Object") := fd_cons ⟨_, _, _, "java/util/LinkedList$Node", cl_25, by decide, Or.inl q1849, Or.inl rfl, rfl, fun _ => rfl, fun h => absurd h (by decide)⟩ (fd_nil)
theorem fl_J6_30 : ∀ t k, ([(25, 2)] : List (Nat × Nat)).lookup t = some k → fd_ok RJ6 30 t k 0 (.object "java/util/LinkedList$Node") := fd_cons ⟨_, _, _, "java/util/LinkedList$Node", cl_25, by decide, Or.inl q1854, Or.inl rfl, rfl, fun _ => rfl, fun h => absurd h (by decide)⟩ (fd_nil)
theorem fl_X5_7 : ∀ t k, ([(11, 0)] : List (Nat × Nat)).lookup t = some k → fd_ok RX5 7 t k 1 (.object "java/lang/String") := fd_cons ⟨_, _, _, "LionGate$Command", cl_11, by decide, Or.inl q1868, Or.inl rfl, rfl, fun _ => rfl, fun _ => rfl⟩ (fd_nil)
theorem fl_X5_13 : ∀ t k, ([(11, 1)] : List (Nat × Nat)).lookup t = some k → fd_ok RX5 13 t k 1 (.array (.int)) := fd_cons ⟨_, _, _, "LionGate$Command", cl_11, by decide, Or.inl q1869, Or.inl rfl, rfl, fun _ => rfl, fun _ => rfl⟩ (fd_nil)
theorem fl_X5_7r : ∀ t k, ([(11, 0)] : List (Nat × Nat)).lookup t = some k → fd_ok RX5 7 t k 2 (.object "java/lang/String") := fd_cons ⟨_, _, _, "LionGate$Command", cl_11, by decide, Or.inl q1868, Or.inl rfl, rfl, fun h => absurd h (by decide), fun h => absurd h (by decide)⟩ (fd_nil)
theorem fl_X5_13r : ∀ t k, ([(11, 1)] : List (Nat × Nat)).lookup t = some k → fd_ok RX5 13 t k 2 (.array (.int)) := fd_cons ⟨_, _, _, "LionGate$Command", cl_11, by decide, Or.inl q1869, Or.inl rfl, rfl, fun h => absurd h (by decide), fun h => absurd h (by decide)⟩ (fd_nil)
theorem fl_X2_73 : ∀ t k, ([(2, 4)] : List (Nat × Nat)).lookup t = some k → fd_ok RX2 73 t k 0 (.int) := fd_cons ⟨_, _, _, "LionGate$Queue", cl_2, by decide, Or.inl q280, Or.inl rfl, rfl, fun _ => rfl, fun h => absurd h (by decide)⟩ (fd_nil)
theorem fl_X7_7 : ∀ t k, ([(13, 6)] : List (Nat × Nat)).lookup t = some k → fd_ok RX7 7 t k 1 (.char) := fd_cons ⟨_, _, _, "LionGate$ConditionFailure", cl_13, by decide, Or.inl q1989, Or.inl rfl, rfl, fun _ => rfl, fun _ => rfl⟩ (fd_nil)
theorem fl_J17_7 : ∀ t k, ([(13, 0), (14, 0), (15, 0)] : List (Nat × Nat)).lookup t = some k → fd_ok RJ17 7 t k 0 (.object "java/lang/Throwable") := fd_cons ⟨_, _, _, "java/lang/Throwable", cl_13, by decide, Or.inl q819, Or.inl rfl, rfl, fun _ => rfl, fun h => absurd h (by decide)⟩ (fd_cons ⟨_, _, _, "java/lang/Throwable", cl_14, by decide, Or.inl q819, Or.inl rfl, rfl, fun _ => rfl, fun h => absurd h (by decide)⟩ (fd_cons ⟨_, _, _, "java/lang/Throwable", cl_15, by decide, Or.inl q819, Or.inl rfl, rfl, fun _ => rfl, fun h => absurd h (by decide)⟩ (fd_nil)))
theorem fl_J17_17 : ∀ t k, ([(13, 1), (14, 1), (15, 1)] : List (Nat × Nat)).lookup t = some k → fd_ok RJ17 17 t k 0 (.array (.object "java/lang/StackTraceElement")) := fd_cons ⟨_, _, _, "java/lang/Throwable", cl_13, by decide, Or.inl q820, Or.inl rfl, rfl, fun _ => rfl, fun h => absurd h (by decide)⟩ (fd_cons ⟨_, _, _, "java/lang/Throwable", cl_14, by decide, Or.inl q820, Or.inl rfl, rfl, fun _ => rfl, fun h => absurd h (by decide)⟩ (fd_cons ⟨_, _, _, "java/lang/Throwable", cl_15, by decide, Or.inl q820, Or.inl rfl, rfl, fun _ => rfl, fun h => absurd h (by decide)⟩ (fd_nil)))
theorem fl_J17_24 : ∀ t k, ([(13, 2), (14, 2), (15, 2)] : List (Nat × Nat)).lookup t = some k → fd_ok RJ17 24 t k 0 (.object "java/util/List") := fd_cons ⟨_, _, _, "java/lang/Throwable", cl_13, by decide, Or.inl q821, Or.inl rfl, rfl, fun _ => rfl, fun h => absurd h (by decide)⟩ (fd_cons ⟨_, _, _, "java/lang/Throwable", cl_14, by decide, Or.inl q821, Or.inl rfl, rfl, fun _ => rfl, fun h => absurd h (by decide)⟩ (fd_cons ⟨_, _, _, "java/lang/Throwable", cl_15, by decide, Or.inl q821, Or.inl rfl, rfl, fun _ => rfl, fun h => absurd h (by decide)⟩ (fd_nil)))
theorem fl_J17_31 : ∀ t k, ([(13, 3), (14, 3), (15, 3)] : List (Nat × Nat)).lookup t = some k → fd_ok RJ17 31 t k 0 (.object "java/lang/String") := fd_cons ⟨_, _, _, "java/lang/Throwable", cl_13, by decide, Or.inl q818, Or.inl rfl, rfl, fun _ => rfl, fun h => absurd h (by decide)⟩ (fd_cons ⟨_, _, _, "java/lang/Throwable", cl_14, by decide, Or.inl q818, Or.inl rfl, rfl, fun _ => rfl, fun h => absurd h (by decide)⟩ (fd_cons ⟨_, _, _, "java/lang/Throwable", cl_15, by decide, Or.inl q818, Or.inl rfl, rfl, fun _ => rfl, fun h => absurd h (by decide)⟩ (fd_nil)))
theorem fl_X8_7 : ∀ t k, ([(5, 0)] : List (Nat × Nat)).lookup t = some k → fd_ok RX8 7 t k 1 (.int) := fd_cons ⟨_, _, _, "LionGate$Lion", cl_5, by decide, Or.inl q2003, Or.inl rfl, rfl, fun _ => rfl, fun _ => rfl⟩ (fd_nil)
theorem fl_X8_13 : ∀ t k, ([(5, 1)] : List (Nat × Nat)).lookup t = some k → fd_ok RX8 13 t k 1 (.int) := fd_cons ⟨_, _, _, "LionGate$Lion", cl_5, by decide, Or.inl q2007, Or.inl rfl, rfl, fun _ => rfl, fun _ => rfl⟩ (fd_nil)
theorem fl_X8_16 : ∀ t k, ([(5, 2)] : List (Nat × Nat)).lookup t = some k → fd_ok RX8 16 t k 1 (.int) := fd_cons ⟨_, _, _, "LionGate$Lion", cl_5, by decide, Or.inl q2012, Or.inl rfl, rfl, fun _ => rfl, fun _ => rfl⟩ (fd_nil)
theorem fl_X8_19 : ∀ t k, ([(5, 3)] : List (Nat × Nat)).lookup t = some k → fd_ok RX8 19 t k 1 (.object "LionGate$Ticket") := fd_cons ⟨_, _, _, "LionGate$Lion", cl_5, by decide, Or.inl q2017, Or.inl rfl, rfl, fun _ => rfl, fun _ => rfl⟩ (fd_nil)
theorem fl_X8_7r : ∀ t k, ([(5, 0)] : List (Nat × Nat)).lookup t = some k → fd_ok RX8 7 t k 2 (.int) := fd_cons ⟨_, _, _, "LionGate$Lion", cl_5, by decide, Or.inl q2003, Or.inl rfl, rfl, fun h => absurd h (by decide), fun h => absurd h (by decide)⟩ (fd_nil)
theorem fl_X8_13r : ∀ t k, ([(5, 1)] : List (Nat × Nat)).lookup t = some k → fd_ok RX8 13 t k 2 (.int) := fd_cons ⟨_, _, _, "LionGate$Lion", cl_5, by decide, Or.inl q2007, Or.inl rfl, rfl, fun h => absurd h (by decide), fun h => absurd h (by decide)⟩ (fd_nil)
theorem fl_X8_16r : ∀ t k, ([(5, 2)] : List (Nat × Nat)).lookup t = some k → fd_ok RX8 16 t k 2 (.int) := fd_cons ⟨_, _, _, "LionGate$Lion", cl_5, by decide, Or.inl q2012, Or.inl rfl, rfl, fun h => absurd h (by decide), fun h => absurd h (by decide)⟩ (fd_nil)
theorem fl_X1_57r : ∀ t k, ([(7, 2)] : List (Nat × Nat)).lookup t = some k → fd_ok RX1 57 t k 2 (.object "LionGate$Node") := fd_cons ⟨_, _, _, "LionGate$Node", cl_7, by decide, Or.inr ⟨_, q2398⟩, Or.inl rfl, rfl, fun h => absurd h (by decide), fun h => absurd h (by decide)⟩ (fd_nil)
theorem fl_X1_35r : ∀ t k, ([(7, 0)] : List (Nat × Nat)).lookup t = some k → fd_ok RX1 35 t k 2 (.object "LionGate$Ticket") := fd_cons ⟨_, _, _, "LionGate$Node", cl_7, by decide, Or.inr ⟨_, q2393⟩, Or.inl rfl, rfl, fun h => absurd h (by decide), fun h => absurd h (by decide)⟩ (fd_nil)
theorem fl_X1_53r : ∀ t k, ([(7, 1)] : List (Nat × Nat)).lookup t = some k → fd_ok RX1 53 t k 2 (.object "LionGate$Node") := fd_cons ⟨_, _, _, "LionGate$Node", cl_7, by decide, Or.inr ⟨_, q2396⟩, Or.inl rfl, rfl, fun h => absurd h (by decide), fun h => absurd h (by decide)⟩ (fd_nil)
theorem fl_J13_3 : ∀ t k, ([(26, 0)] : List (Nat × Nat)).lookup t = some k → fd_ok RJ13 3 t k 0 (.array (.object "java/lang/Object")) := fd_cons ⟨_, _, _, "java/util/ArrayDeque", cl_26, by decide, Or.inl q2076, Or.inl rfl, rfl, fun _ => rfl, fun h => absurd h (by decide)⟩ (fd_nil)
theorem fl_J13_24 : ∀ t k, ([(26, 1)] : List (Nat × Nat)).lookup t = some k → fd_ok RJ13 24 t k 0 (.int) := fd_cons ⟨_, _, _, "java/util/ArrayDeque", cl_26, by decide, Or.inl q2079, Or.inl rfl, rfl, fun _ => rfl, fun h => absurd h (by decide)⟩ (fd_nil)
theorem fl_J13_20 : ∀ t k, ([(26, 2)] : List (Nat × Nat)).lookup t = some k → fd_ok RJ13 20 t k 0 (.int) := fd_cons ⟨_, _, _, "java/util/ArrayDeque", cl_26, by decide, Or.inl q2080, Or.inl rfl, rfl, fun _ => rfl, fun h => absurd h (by decide)⟩ (fd_nil)
theorem fl_X9_7 : ∀ t k, ([(6, 0)] : List (Nat × Nat)).lookup t = some k → fd_ok RX9 7 t k 1 (.int) := fd_cons ⟨_, _, _, "LionGate$Ticket", cl_6, by decide, Or.inl q2039, Or.inl rfl, rfl, fun _ => rfl, fun _ => rfl⟩ (fd_nil)
theorem fl_X9_13 : ∀ t k, ([(6, 1)] : List (Nat × Nat)).lookup t = some k → fd_ok RX9 13 t k 1 (.int) := fd_cons ⟨_, _, _, "LionGate$Ticket", cl_6, by decide, Or.inl q2043, Or.inl rfl, rfl, fun _ => rfl, fun _ => rfl⟩ (fd_nil)
theorem fl_X9_16 : ∀ t k, ([(6, 2)] : List (Nat × Nat)).lookup t = some k → fd_ok RX9 16 t k 1 (.int) := fd_cons ⟨_, _, _, "LionGate$Ticket", cl_6, by decide, Or.inl q2045, Or.inl rfl, rfl, fun _ => rfl, fun _ => rfl⟩ (fd_nil)
theorem fl_J1_290 : ∀ t k, ([(19, 5)] : List (Nat × Nat)).lookup t = some k → fd_ok RJ1 290 t k 0 (.boolean) := fd_cons ⟨_, _, _, "java/util/TreeMap$Entry", cl_19, by decide, Or.inl q1706, Or.inl rfl, rfl, fun _ => rfl, fun h => absurd h (by decide)⟩ (fd_nil)
theorem fl_J41_9 : ∀ t k, ([(19, 5)] : List (Nat × Nat)).lookup t = some k → fd_ok RJ41 9 t k 0 (.boolean) := fd_cons ⟨_, _, _, "java/util/TreeMap$Entry", cl_19, by decide, Or.inl q1705, Or.inl rfl, rfl, fun _ => rfl, fun h => absurd h (by decide)⟩ (fd_nil)
theorem fl_J41_15 : ∀ t k, ([(19, 0)] : List (Nat × Nat)).lookup t = some k → fd_ok RJ41 15 t k 0 (.object "java/lang/Object") := fd_cons ⟨_, _, _, "java/util/TreeMap$Entry", cl_19, by decide, Or.inl q1693, Or.inl rfl, rfl, fun _ => rfl, fun h => absurd h (by decide)⟩ (fd_nil)
theorem fl_J41_19 : ∀ t k, ([(19, 1)] : List (Nat × Nat)).lookup t = some k → fd_ok RJ41 19 t k 0 (.object "java/lang/Object") := fd_cons ⟨_, _, _, "java/util/TreeMap$Entry", cl_19, by decide, Or.inl q1696, Or.inl rfl, rfl, fun _ => rfl, fun h => absurd h (by decide)⟩ (fd_nil)
theorem fl_J41_22 : ∀ t k, ([(19, 4)] : List (Nat × Nat)).lookup t = some k → fd_ok RJ41 22 t k 0 (.object "java/util/TreeMap$Entry") := fd_cons ⟨_, _, _, "java/util/TreeMap$Entry", cl_19, by decide, Or.inl q1703, Or.inl rfl, rfl, fun _ => rfl, fun h => absurd h (by decide)⟩ (fd_nil)
theorem fl_X8_19r : ∀ t k, ([(5, 3)] : List (Nat × Nat)).lookup t = some k → fd_ok RX8 19 t k 2 (.object "LionGate$Ticket") := fd_cons ⟨_, _, _, "LionGate$Lion", cl_5, by decide, Or.inl q2017, Or.inl rfl, rfl, fun h => absurd h (by decide), fun h => absurd h (by decide)⟩ (fd_nil)
theorem fl_X8_26r : ∀ t k, ([(6, 2)] : List (Nat × Nat)).lookup t = some k → fd_ok RX8 26 t k 2 (.int) := fd_cons ⟨_, _, _, "LionGate$Ticket", cl_6, by decide, Or.inr ⟨_, q2046⟩, Or.inl rfl, rfl, fun h => absurd h (by decide), fun h => absurd h (by decide)⟩ (fd_nil)
theorem fl_X2_220r : ∀ t k, ([(3, 0)] : List (Nat × Nat)).lookup t = some k → fd_ok RX2 220 t k 2 (.object "java/util/List") := fd_cons ⟨_, _, _, "LionGate$Keepers", cl_3, by decide, Or.inr ⟨_, q268⟩, Or.inl rfl, rfl, fun h => absurd h (by decide), fun h => absurd h (by decide)⟩ (fd_nil)
theorem fl_X11_7 : ∀ t k, ([(4, 0)] : List (Nat × Nat)).lookup t = some k → fd_ok RX11 7 t k 1 (.int) := fd_cons ⟨_, _, _, "LionGate$Keeper", cl_4, by decide, Or.inl q2493, Or.inl rfl, rfl, fun _ => rfl, fun _ => rfl⟩ (fd_nil)
theorem fl_X11_13 : ∀ t k, ([(4, 1)] : List (Nat × Nat)).lookup t = some k → fd_ok RX11 13 t k 1 (.int) := fd_cons ⟨_, _, _, "LionGate$Keeper", cl_4, by decide, Or.inl q2496, Or.inl rfl, rfl, fun _ => rfl, fun _ => rfl⟩ (fd_nil)
theorem fl_J35_13 : ∀ t k, ([(19, 0)] : List (Nat × Nat)).lookup t = some k → fd_ok RJ35 13 t k 0 (.object "java/lang/Object") := fd_cons ⟨_, _, _, "java/util/TreeMap$Entry", cl_19, by decide, Or.inl q1694, Or.inl rfl, rfl, fun _ => rfl, fun h => absurd h (by decide)⟩ (fd_nil)
theorem fl_J51_7r : ∀ t k, ([(21, 0)] : List (Nat × Nat)).lookup t = some k → fd_ok RJ51 7 t k 2 (.object "java/util/NavigableMap") := fd_cons ⟨_, _, _, "java/util/TreeMap$KeySet", cl_21, by decide, Or.inl q3156, Or.inl rfl, rfl, fun h => absurd h (by decide), fun h => absurd h (by decide)⟩ (fd_nil)
theorem fl_X2_198r : ∀ t k, ([(5, 1)] : List (Nat × Nat)).lookup t = some k → fd_ok RX2 198 t k 2 (.int) := fd_cons ⟨_, _, _, "LionGate$Lion", cl_5, by decide, Or.inr ⟨_, q2010⟩, Or.inl rfl, rfl, fun h => absurd h (by decide), fun h => absurd h (by decide)⟩ (fd_nil)
theorem fl_X2_91 : ∀ t k, ([(2, 10)] : List (Nat × Nat)).lookup t = some k → fd_ok RX2 91 t k 0 (.int) := fd_cons ⟨_, _, _, "LionGate$Queue", cl_2, by decide, Or.inl q291, Or.inl rfl, rfl, fun _ => rfl, fun h => absurd h (by decide)⟩ (fd_nil)
theorem fl_X2_88 : ∀ t k, ([(2, 9)] : List (Nat × Nat)).lookup t = some k → fd_ok RX2 88 t k 0 (.int) := fd_cons ⟨_, _, _, "LionGate$Queue", cl_2, by decide, Or.inl q289, Or.inl rfl, rfl, fun _ => rfl, fun h => absurd h (by decide)⟩ (fd_nil)
theorem fl_X2_201r : ∀ t k, ([(5, 2)] : List (Nat × Nat)).lookup t = some k → fd_ok RX2 201 t k 2 (.int) := fd_cons ⟨_, _, _, "LionGate$Lion", cl_5, by decide, Or.inr ⟨_, q2015⟩, Or.inl rfl, rfl, fun h => absurd h (by decide), fun h => absurd h (by decide)⟩ (fd_nil)
theorem fl_J9_9r : ∀ t k, ([(30, 0)] : List (Nat × Nat)).lookup t = some k → fd_ok RJ9 9 t k 2 (.array (.byte)) := fd_cons ⟨_, _, _, "java/lang/String", cl_30, by decide, Or.inl q843, Or.inl rfl, rfl, fun h => absurd h (by decide), fun h => absurd h (by decide)⟩ (fd_nil)
theorem fl_J9_15r : ∀ t k, ([(30, 1)] : List (Nat × Nat)).lookup t = some k → fd_ok RJ9 15 t k 2 (.byte) := fd_cons ⟨_, _, _, "java/lang/String", cl_30, by decide, Or.inl q844, Or.inl rfl, rfl, fun h => absurd h (by decide), fun h => absurd h (by decide)⟩ (fd_nil)
theorem fl_J9_19 : ∀ t k, ([(30, 2)] : List (Nat × Nat)).lookup t = some k → fd_ok RJ9 19 t k 0 (.int) := fd_cons ⟨_, _, _, "java/lang/String", cl_30, by decide, Or.inl q845, Or.inl rfl, rfl, fun _ => rfl, fun h => absurd h (by decide)⟩ (fd_nil)
theorem fl_J9_23 : ∀ t k, ([(30, 3)] : List (Nat × Nat)).lookup t = some k → fd_ok RJ9 23 t k 0 (.boolean) := fd_cons ⟨_, _, _, "java/lang/String", cl_30, by decide, Or.inl q846, Or.inl rfl, rfl, fun _ => rfl, fun h => absurd h (by decide)⟩ (fd_nil)
theorem fl_X7_7r : ∀ t k, ([(13, 6)] : List (Nat × Nat)).lookup t = some k → fd_ok RX7 7 t k 2 (.char) := fd_cons ⟨_, _, _, "LionGate$ConditionFailure", cl_13, by decide, Or.inl q1989, Or.inl rfl, rfl, fun h => absurd h (by decide), fun h => absurd h (by decide)⟩ (fd_nil)
theorem fl_J7_79 : ∀ t k, ([(29, 3)] : List (Nat × Nat)).lookup t = some k → fd_ok RJ7 79 t k 0 (.int) := fd_cons ⟨_, _, _, "java/lang/AbstractStringBuilder", cl_29, by decide, Or.inl q359, Or.inl rfl, rfl, fun _ => rfl, fun h => absurd h (by decide)⟩ (fd_nil)
theorem fl_J9_15 : ∀ t k, ([(30, 1)] : List (Nat × Nat)).lookup t = some k → fd_ok RJ9 15 t k 1 (.byte) := fd_cons ⟨_, _, _, "java/lang/String", cl_30, by decide, Or.inl q844, Or.inl rfl, rfl, fun _ => rfl, fun _ => rfl⟩ (fd_nil)
theorem fl_J9_9 : ∀ t k, ([(30, 0)] : List (Nat × Nat)).lookup t = some k → fd_ok RJ9 9 t k 1 (.array (.byte)) := fd_cons ⟨_, _, _, "java/lang/String", cl_30, by decide, Or.inl q843, Or.inl rfl, rfl, fun _ => rfl, fun _ => rfl⟩ (fd_nil)
theorem fl_J9_1048 : ∀ t k, ([(29, 2)] : List (Nat × Nat)).lookup t = some k → fd_ok RJ9 1048 t k 0 (.boolean) := fd_cons ⟨_, _, _, "java/lang/AbstractStringBuilder", cl_29, by decide, Or.inl q358, Or.inl rfl, rfl, fun _ => rfl, fun h => absurd h (by decide)⟩ (fd_nil)
theorem fl_X1_436 : ∀ t k, ([(0, 1)] : List (Nat × Nat)).lookup t = some k → fd_ok RX1 436 t k 0 (.object "LionGate$Queue") := fd_cons ⟨_, _, _, "LionGate", cl_0, by decide, Or.inl q372, Or.inl rfl, rfl, fun _ => rfl, fun h => absurd h (by decide)⟩ (fd_nil)
theorem fl_X1_328 : ∀ t k, ([(2, 8)] : List (Nat × Nat)).lookup t = some k → fd_ok RX1 328 t k 0 (.int) := fd_cons ⟨_, _, _, "LionGate$Queue", cl_2, by decide, Or.inr ⟨_, q288⟩, Or.inl rfl, rfl, fun _ => rfl, fun h => absurd h (by decide)⟩ (fd_nil)
theorem fl_X1_340 : ∀ t k, ([(2, 6)] : List (Nat × Nat)).lookup t = some k → fd_ok RX1 340 t k 0 (.int) := fd_cons ⟨_, _, _, "LionGate$Queue", cl_2, by decide, Or.inr ⟨_, q284⟩, Or.inl rfl, rfl, fun _ => rfl, fun h => absurd h (by decide)⟩ (fd_nil)
theorem fl_X1_238 : ∀ t k, ([(2, 3)] : List (Nat × Nat)).lookup t = some k → fd_ok RX1 238 t k 0 (.int) := fd_cons ⟨_, _, _, "LionGate$Queue", cl_2, by decide, Or.inr ⟨_, q279⟩, Or.inl rfl, rfl, fun _ => rfl, fun h => absurd h (by decide)⟩ (fd_nil)
theorem fl_X1_218r : ∀ t k, ([(5, 2)] : List (Nat × Nat)).lookup t = some k → fd_ok RX1 218 t k 2 (.int) := fd_cons ⟨_, _, _, "LionGate$Lion", cl_5, by decide, Or.inr ⟨_, q2016⟩, Or.inl rfl, rfl, fun h => absurd h (by decide), fun h => absurd h (by decide)⟩ (fd_nil)
theorem fl_X1_298r : ∀ t k, ([(4, 1)] : List (Nat × Nat)).lookup t = some k → fd_ok RX1 298 t k 2 (.int) := fd_cons ⟨_, _, _, "LionGate$Keeper", cl_4, by decide, Or.inr ⟨_, q2498⟩, Or.inl rfl, rfl, fun h => absurd h (by decide), fun h => absurd h (by decide)⟩ (fd_nil)
theorem fl_X1_403 : ∀ t k, ([(0, 6)] : List (Nat × Nat)).lookup t = some k → fd_ok RX1 403 t k 0 (.char) := fd_cons ⟨_, _, _, "LionGate", cl_0, by decide, Or.inl q377, Or.inl rfl, rfl, fun _ => rfl, fun h => absurd h (by decide)⟩ (fd_nil)
theorem fl_X1_243 : ∀ t k, ([(2, 2)] : List (Nat × Nat)).lookup t = some k → fd_ok RX1 243 t k 0 (.object "LionGate$Node") := fd_cons ⟨_, _, _, "LionGate$Queue", cl_2, by decide, Or.inr ⟨_, q277⟩, Or.inl rfl, rfl, fun _ => rfl, fun h => absurd h (by decide)⟩ (fd_nil)
theorem fl_J1_191 : ∀ t k, ([(18, 7)] : List (Nat × Nat)).lookup t = some k → fd_ok RJ1 191 t k 0 (.object "java/util/TreeMap$KeySet") := fd_cons ⟨_, _, _, "java/util/TreeMap", cl_18, by decide, Or.inl q206, Or.inl rfl, rfl, fun _ => rfl, fun h => absurd h (by decide)⟩ (fd_nil)
theorem fl_J51_7 : ∀ t k, ([(21, 0)] : List (Nat × Nat)).lookup t = some k → fd_ok RJ51 7 t k 1 (.object "java/util/NavigableMap") := fd_cons ⟨_, _, _, "java/util/TreeMap$KeySet", cl_21, by decide, Or.inl q3156, Or.inl rfl, rfl, fun _ => rfl, fun _ => rfl⟩ (fd_nil)
theorem fl_X1_215r : ∀ t k, ([(5, 1)] : List (Nat × Nat)).lookup t = some k → fd_ok RX1 215 t k 2 (.int) := fd_cons ⟨_, _, _, "LionGate$Lion", cl_5, by decide, Or.inr ⟨_, q2011⟩, Or.inl rfl, rfl, fun h => absurd h (by decide), fun h => absurd h (by decide)⟩ (fd_nil)
theorem fl_X8_52r : ∀ t k, ([(6, 0)] : List (Nat × Nat)).lookup t = some k → fd_ok RX8 52 t k 2 (.int) := fd_cons ⟨_, _, _, "LionGate$Ticket", cl_6, by decide, Or.inr ⟨_, q2041⟩, Or.inl rfl, rfl, fun h => absurd h (by decide), fun h => absurd h (by decide)⟩ (fd_nil)
theorem fl_X1_82r : ∀ t k, ([(0, 3)] : List (Nat × Nat)).lookup t = some k → fd_ok RX1 82 t k 2 (.object "java/lang/StringBuilder") := fd_cons ⟨_, _, _, "LionGate", cl_0, by decide, Or.inl q374, Or.inl rfl, rfl, fun h => absurd h (by decide), fun h => absurd h (by decide)⟩ (fd_nil)
theorem fl_X17_7 : ∀ t k, ([(14, 6)] : List (Nat × Nat)).lookup t = some k → fd_ok RX17 7 t k 1 (.int) := fd_cons ⟨_, _, _, "LionGate$CommandFailure", cl_14, by decide, Or.inl q3722, Or.inl rfl, rfl, fun _ => rfl, fun _ => rfl⟩ (fd_nil)
theorem fl_X17_7r : ∀ t k, ([(14, 6)] : List (Nat × Nat)).lookup t = some k → fd_ok RX17 7 t k 2 (.int) := fd_cons ⟨_, _, _, "LionGate$CommandFailure", cl_14, by decide, Or.inl q3722, Or.inl rfl, rfl, fun h => absurd h (by decide), fun h => absurd h (by decide)⟩ (fd_nil)
theorem fl_X16_7r : ∀ t k, ([(15, 6)] : List (Nat × Nat)).lookup t = some k → fd_ok RX16 7 t k 2 (.int) := fd_cons ⟨_, _, _, "LionGate$SyntaxFailure", cl_15, by decide, Or.inl q3591, Or.inl rfl, rfl, fun h => absurd h (by decide), fun h => absurd h (by decide)⟩ (fd_nil)
theorem fl_X15_31 : ∀ t k, ([(12, 0)] : List (Nat × Nat)).lookup t = some k → fd_ok RX15 31 t k 1 (.object "java/util/List") := fd_cons ⟨_, _, _, "LionGate$Parser", cl_12, by decide, Or.inl q3516, Or.inl rfl, rfl, fun _ => rfl, fun _ => rfl⟩ (fd_nil)
theorem fl_X15_37 : ∀ t k, ([(12, 1)] : List (Nat × Nat)).lookup t = some k → fd_ok RX15 37 t k 1 (.object "java/lang/String") := fd_cons ⟨_, _, _, "LionGate$Parser", cl_12, by decide, Or.inl q3517, Or.inl rfl, rfl, fun _ => rfl, fun _ => rfl⟩ (fd_nil)
theorem fl_J58_7 : ∀ t k, ([(32, 0)] : List (Nat × Nat)).lookup t = some k → fd_ok RJ58 7 t k 1 (.array (.object "java/lang/Object")) := fd_cons ⟨_, _, _, "java/util/ImmutableCollections$ListN", cl_32, by decide, Or.inl q3509, Or.inl rfl, rfl, fun _ => rfl, fun _ => rfl⟩ (fd_nil)
theorem fl_J58_13 : ∀ t k, ([(32, 1)] : List (Nat × Nat)).lookup t = some k → fd_ok RJ58 13 t k 1 (.boolean) := fd_cons ⟨_, _, _, "java/util/ImmutableCollections$ListN", cl_32, by decide, Or.inl q3510, Or.inl rfl, rfl, fun _ => rfl, fun _ => rfl⟩ (fd_nil)
theorem fl_X15_41 : ∀ t k, ([(12, 2)] : List (Nat × Nat)).lookup t = some k → fd_ok RX15 41 t k 0 (.int) := fd_cons ⟨_, _, _, "LionGate$Parser", cl_12, by decide, Or.inl q3518, Or.inl rfl, rfl, fun _ => rfl, fun h => absurd h (by decide)⟩ (fd_nil)
theorem fl_X15_37r : ∀ t k, ([(12, 1)] : List (Nat × Nat)).lookup t = some k → fd_ok RX15 37 t k 2 (.object "java/lang/String") := fd_cons ⟨_, _, _, "LionGate$Parser", cl_12, by decide, Or.inl q3517, Or.inl rfl, rfl, fun h => absurd h (by decide), fun h => absurd h (by decide)⟩ (fd_nil)
theorem fl_X16_7 : ∀ t k, ([(15, 6)] : List (Nat × Nat)).lookup t = some k → fd_ok RX16 7 t k 1 (.int) := fd_cons ⟨_, _, _, "LionGate$SyntaxFailure", cl_15, by decide, Or.inl q3591, Or.inl rfl, rfl, fun _ => rfl, fun _ => rfl⟩ (fd_nil)
theorem fl_X15_31r : ∀ t k, ([(12, 0)] : List (Nat × Nat)).lookup t = some k → fd_ok RX15 31 t k 2 (.object "java/util/List") := fd_cons ⟨_, _, _, "LionGate$Parser", cl_12, by decide, Or.inl q3516, Or.inl rfl, rfl, fun h => absurd h (by decide), fun h => absurd h (by decide)⟩ (fd_nil)
theorem fl_J15_7 : ∀ t k, ([(33, 0)] : List (Nat × Nat)).lookup t = some k → fd_ok RJ15 7 t k 1 (.object "java/util/List") := fd_cons ⟨_, _, _, "java/util/ImmutableCollections$ListItr", cl_33, by decide, Or.inl q513, Or.inl rfl, rfl, fun _ => rfl, fun _ => rfl⟩ (fd_nil)
theorem fl_J15_13 : ∀ t k, ([(33, 1)] : List (Nat × Nat)).lookup t = some k → fd_ok RJ15 13 t k 1 (.int) := fd_cons ⟨_, _, _, "java/util/ImmutableCollections$ListItr", cl_33, by decide, Or.inl q514, Or.inl rfl, rfl, fun _ => rfl, fun _ => rfl⟩ (fd_nil)
theorem fl_J15_17 : ∀ t k, ([(33, 3)] : List (Nat × Nat)).lookup t = some k → fd_ok RJ15 17 t k 0 (.int) := fd_cons ⟨_, _, _, "java/util/ImmutableCollections$ListItr", cl_33, by decide, Or.inl q516, Or.inl rfl, rfl, fun _ => rfl, fun h => absurd h (by decide)⟩ (fd_nil)
theorem fl_J15_20 : ∀ t k, ([(33, 2)] : List (Nat × Nat)).lookup t = some k → fd_ok RJ15 20 t k 1 (.boolean) := fd_cons ⟨_, _, _, "java/util/ImmutableCollections$ListItr", cl_33, by decide, Or.inl q515, Or.inl rfl, rfl, fun _ => rfl, fun _ => rfl⟩ (fd_nil)
theorem fl_J58_7r : ∀ t k, ([(32, 0)] : List (Nat × Nat)).lookup t = some k → fd_ok RJ58 7 t k 2 (.array (.object "java/lang/Object")) := fd_cons ⟨_, _, _, "java/util/ImmutableCollections$ListN", cl_32, by decide, Or.inl q3509, Or.inl rfl, rfl, fun h => absurd h (by decide), fun h => absurd h (by decide)⟩ (fd_nil)
theorem fl_J15_13r : ∀ t k, ([(33, 1)] : List (Nat × Nat)).lookup t = some k → fd_ok RJ15 13 t k 2 (.int) := fd_cons ⟨_, _, _, "java/util/ImmutableCollections$ListItr", cl_33, by decide, Or.inl q514, Or.inl rfl, rfl, fun h => absurd h (by decide), fun h => absurd h (by decide)⟩ (fd_nil)
theorem fl_J15_7r : ∀ t k, ([(33, 0)] : List (Nat × Nat)).lookup t = some k → fd_ok RJ15 7 t k 2 (.object "java/util/List") := fd_cons ⟨_, _, _, "java/util/ImmutableCollections$ListItr", cl_33, by decide, Or.inl q513, Or.inl rfl, rfl, fun h => absurd h (by decide), fun h => absurd h (by decide)⟩ (fd_nil)
theorem fl_J58_13r : ∀ t k, ([(32, 1)] : List (Nat × Nat)).lookup t = some k → fd_ok RJ58 13 t k 2 (.boolean) := fd_cons ⟨_, _, _, "java/util/ImmutableCollections$ListN", cl_32, by decide, Or.inl q3510, Or.inl rfl, rfl, fun h => absurd h (by decide), fun h => absurd h (by decide)⟩ (fd_nil)
theorem fl_J7_73 : ∀ t k, ([(29, 2)] : List (Nat × Nat)).lookup t = some k → fd_ok RJ7 73 t k 0 (.boolean) := fd_cons ⟨_, _, _, "java/lang/AbstractStringBuilder", cl_29, by decide, Or.inl q357, Or.inl rfl, rfl, fun _ => rfl, fun h => absurd h (by decide)⟩ (fd_nil)
theorem fl_X1_293r : ∀ t k, ([(4, 0)] : List (Nat × Nat)).lookup t = some k → fd_ok RX1 293 t k 2 (.int) := fd_cons ⟨_, _, _, "LionGate$Keeper", cl_4, by decide, Or.inr ⟨_, q2495⟩, Or.inl rfl, rfl, fun h => absurd h (by decide), fun h => absurd h (by decide)⟩ (fd_nil)
theorem fl_X1_222r : ∀ t k, ([(6, 0)] : List (Nat × Nat)).lookup t = some k → fd_ok RX1 222 t k 2 (.int) := fd_cons ⟨_, _, _, "LionGate$Ticket", cl_6, by decide, Or.inr ⟨_, q2042⟩, Or.inl rfl, rfl, fun h => absurd h (by decide), fun h => absurd h (by decide)⟩ (fd_nil)
theorem fl_X1_221r : ∀ t k, ([(5, 3)] : List (Nat × Nat)).lookup t = some k → fd_ok RX1 221 t k 2 (.object "LionGate$Ticket") := fd_cons ⟨_, _, _, "LionGate$Lion", cl_5, by decide, Or.inr ⟨_, q2019⟩, Or.inl rfl, rfl, fun h => absurd h (by decide), fun h => absurd h (by decide)⟩ (fd_nil)
theorem fl_X4_7 : ∀ t k, ([(1, 2)] : List (Nat × Nat)).lookup t = some k → fd_ok RX4 7 t k 0 (.int) := fd_cons ⟨_, _, _, "LionGateModel", cl_1, by decide, Or.inl q3881, Or.inl rfl, rfl, fun _ => rfl, fun h => absurd h (by decide)⟩ (fd_nil)
theorem fl_X4_13 : ∀ t k, ([(1, 3)] : List (Nat × Nat)).lookup t = some k → fd_ok RX4 13 t k 0 (.int) := fd_cons ⟨_, _, _, "LionGateModel", cl_1, by decide, Or.inl q3882, Or.inl rfl, rfl, fun _ => rfl, fun h => absurd h (by decide)⟩ (fd_nil)
theorem fl_X4_16 : ∀ t k, ([(1, 6)] : List (Nat × Nat)).lookup t = some k → fd_ok RX4 16 t k 1 (.array (.int)) := fd_cons ⟨_, _, _, "LionGateModel", cl_1, by decide, Or.inl q3885, Or.inl rfl, rfl, fun _ => rfl, fun _ => rfl⟩ (fd_nil)
theorem fl_X4_20 : ∀ t k, ([(1, 7)] : List (Nat × Nat)).lookup t = some k → fd_ok RX4 20 t k 1 (.array (.int)) := fd_cons ⟨_, _, _, "LionGateModel", cl_1, by decide, Or.inl q3886, Or.inl rfl, rfl, fun _ => rfl, fun _ => rfl⟩ (fd_nil)
theorem fl_X4_23 : ∀ t k, ([(1, 8)] : List (Nat × Nat)).lookup t = some k → fd_ok RX4 23 t k 1 (.array (.int)) := fd_cons ⟨_, _, _, "LionGateModel", cl_1, by decide, Or.inl q3887, Or.inl rfl, rfl, fun _ => rfl, fun _ => rfl⟩ (fd_nil)
theorem fl_X4_26 : ∀ t k, ([(1, 9)] : List (Nat × Nat)).lookup t = some k → fd_ok RX4 26 t k 1 (.array (.int)) := fd_cons ⟨_, _, _, "LionGateModel", cl_1, by decide, Or.inl q3888, Or.inl rfl, rfl, fun _ => rfl, fun _ => rfl⟩ (fd_nil)
theorem fl_X4_29 : ∀ t k, ([(1, 10)] : List (Nat × Nat)).lookup t = some k → fd_ok RX4 29 t k 1 (.array (.int)) := fd_cons ⟨_, _, _, "LionGateModel", cl_1, by decide, Or.inl q3889, Or.inl rfl, rfl, fun _ => rfl, fun _ => rfl⟩ (fd_nil)
theorem fl_X4_32 : ∀ t k, ([(1, 11)] : List (Nat × Nat)).lookup t = some k → fd_ok RX4 32 t k 1 (.array (.int)) := fd_cons ⟨_, _, _, "LionGateModel", cl_1, by decide, Or.inl q3890, Or.inl rfl, rfl, fun _ => rfl, fun _ => rfl⟩ (fd_nil)
theorem fl_X4_35 : ∀ t k, ([(1, 12)] : List (Nat × Nat)).lookup t = some k → fd_ok RX4 35 t k 1 (.array (.int)) := fd_cons ⟨_, _, _, "LionGateModel", cl_1, by decide, Or.inl q3891, Or.inl rfl, rfl, fun _ => rfl, fun _ => rfl⟩ (fd_nil)
theorem fl_X4_38 : ∀ t k, ([(1, 13)] : List (Nat × Nat)).lookup t = some k → fd_ok RX4 38 t k 1 (.array (.int)) := fd_cons ⟨_, _, _, "LionGateModel", cl_1, by decide, Or.inl q3892, Or.inl rfl, rfl, fun _ => rfl, fun _ => rfl⟩ (fd_nil)
theorem fl_X4_41 : ∀ t k, ([(1, 14)] : List (Nat × Nat)).lookup t = some k → fd_ok RX4 41 t k 1 (.array (.int)) := fd_cons ⟨_, _, _, "LionGateModel", cl_1, by decide, Or.inl q3893, Or.inl rfl, rfl, fun _ => rfl, fun _ => rfl⟩ (fd_nil)
theorem fl_X4_44 : ∀ t k, ([(1, 15)] : List (Nat × Nat)).lookup t = some k → fd_ok RX4 44 t k 1 (.array (.int)) := fd_cons ⟨_, _, _, "LionGateModel", cl_1, by decide, Or.inl q3894, Or.inl rfl, rfl, fun _ => rfl, fun _ => rfl⟩ (fd_nil)
theorem fl_X4_47 : ∀ t k, ([(1, 16)] : List (Nat × Nat)).lookup t = some k → fd_ok RX4 47 t k 1 (.array (.int)) := fd_cons ⟨_, _, _, "LionGateModel", cl_1, by decide, Or.inl q3895, Or.inl rfl, rfl, fun _ => rfl, fun _ => rfl⟩ (fd_nil)
theorem fl_X4_16r : ∀ t k, ([(1, 6)] : List (Nat × Nat)).lookup t = some k → fd_ok RX4 16 t k 2 (.array (.int)) := fd_cons ⟨_, _, _, "LionGateModel", cl_1, by decide, Or.inl q3885, Or.inl rfl, rfl, fun h => absurd h (by decide), fun h => absurd h (by decide)⟩ (fd_nil)
theorem fl_X4_50 : ∀ t k, ([(1, 0)] : List (Nat × Nat)).lookup t = some k → fd_ok RX4 50 t k 0 (.int) := fd_cons ⟨_, _, _, "LionGateModel", cl_1, by decide, Or.inl q3879, Or.inl rfl, rfl, fun _ => rfl, fun h => absurd h (by decide)⟩ (fd_nil)
theorem fl_X4_20r : ∀ t k, ([(1, 7)] : List (Nat × Nat)).lookup t = some k → fd_ok RX4 20 t k 2 (.array (.int)) := fd_cons ⟨_, _, _, "LionGateModel", cl_1, by decide, Or.inl q3886, Or.inl rfl, rfl, fun h => absurd h (by decide), fun h => absurd h (by decide)⟩ (fd_nil)
theorem fl_X4_57 : ∀ t k, ([(1, 1)] : List (Nat × Nat)).lookup t = some k → fd_ok RX4 57 t k 0 (.int) := fd_cons ⟨_, _, _, "LionGateModel", cl_1, by decide, Or.inl q3880, Or.inl rfl, rfl, fun _ => rfl, fun h => absurd h (by decide)⟩ (fd_nil)
theorem fl_X4_26r : ∀ t k, ([(1, 9)] : List (Nat × Nat)).lookup t = some k → fd_ok RX4 26 t k 2 (.array (.int)) := fd_cons ⟨_, _, _, "LionGateModel", cl_1, by decide, Or.inl q3888, Or.inl rfl, rfl, fun h => absurd h (by decide), fun h => absurd h (by decide)⟩ (fd_nil)
theorem fl_X4_29r : ∀ t k, ([(1, 10)] : List (Nat × Nat)).lookup t = some k → fd_ok RX4 29 t k 2 (.array (.int)) := fd_cons ⟨_, _, _, "LionGateModel", cl_1, by decide, Or.inl q3889, Or.inl rfl, rfl, fun h => absurd h (by decide), fun h => absurd h (by decide)⟩ (fd_nil)
theorem fl_X4_221 : ∀ t k, ([(1, 4)] : List (Nat × Nat)).lookup t = some k → fd_ok RX4 221 t k 0 (.int) := fd_cons ⟨_, _, _, "LionGateModel", cl_1, by decide, Or.inl q3883, Or.inl rfl, rfl, fun _ => rfl, fun h => absurd h (by decide)⟩ (fd_nil)
theorem fl_X4_35r : ∀ t k, ([(1, 12)] : List (Nat × Nat)).lookup t = some k → fd_ok RX4 35 t k 2 (.array (.int)) := fd_cons ⟨_, _, _, "LionGateModel", cl_1, by decide, Or.inl q3891, Or.inl rfl, rfl, fun h => absurd h (by decide), fun h => absurd h (by decide)⟩ (fd_nil)
theorem fl_X4_164 : ∀ t k, ([(1, 20)] : List (Nat × Nat)).lookup t = some k → fd_ok RX4 164 t k 0 (.int) := fd_cons ⟨_, _, _, "LionGateModel", cl_1, by decide, Or.inl q3899, Or.inl rfl, rfl, fun _ => rfl, fun h => absurd h (by decide)⟩ (fd_nil)
theorem fl_X4_23r : ∀ t k, ([(1, 8)] : List (Nat × Nat)).lookup t = some k → fd_ok RX4 23 t k 2 (.array (.int)) := fd_cons ⟨_, _, _, "LionGateModel", cl_1, by decide, Or.inl q3887, Or.inl rfl, rfl, fun h => absurd h (by decide), fun h => absurd h (by decide)⟩ (fd_nil)
theorem fl_X4_224 : ∀ t k, ([(1, 5)] : List (Nat × Nat)).lookup t = some k → fd_ok RX4 224 t k 0 (.boolean) := fd_cons ⟨_, _, _, "LionGateModel", cl_1, by decide, Or.inl q3884, Or.inl rfl, rfl, fun _ => rfl, fun h => absurd h (by decide)⟩ (fd_nil)
theorem fl_X4_177 : ∀ t k, ([(1, 17)] : List (Nat × Nat)).lookup t = some k → fd_ok RX4 177 t k 0 (.int) := fd_cons ⟨_, _, _, "LionGateModel", cl_1, by decide, Or.inl q3896, Or.inl rfl, rfl, fun _ => rfl, fun h => absurd h (by decide)⟩ (fd_nil)
theorem fl_X4_183 : ∀ t k, ([(1, 19)] : List (Nat × Nat)).lookup t = some k → fd_ok RX4 183 t k 0 (.int) := fd_cons ⟨_, _, _, "LionGateModel", cl_1, by decide, Or.inl q3898, Or.inl rfl, rfl, fun _ => rfl, fun h => absurd h (by decide)⟩ (fd_nil)
theorem fl_X4_205 : ∀ t k, ([(1, 23)] : List (Nat × Nat)).lookup t = some k → fd_ok RX4 205 t k 0 (.boolean) := fd_cons ⟨_, _, _, "LionGateModel", cl_1, by decide, Or.inl q3902, Or.inl rfl, rfl, fun _ => rfl, fun h => absurd h (by decide)⟩ (fd_nil)
theorem fl_X4_186 : ∀ t k, ([(1, 22)] : List (Nat × Nat)).lookup t = some k → fd_ok RX4 186 t k 0 (.boolean) := fd_cons ⟨_, _, _, "LionGateModel", cl_1, by decide, Or.inl q3901, Or.inl rfl, rfl, fun _ => rfl, fun h => absurd h (by decide)⟩ (fd_nil)
theorem fl_X4_47r : ∀ t k, ([(1, 16)] : List (Nat × Nat)).lookup t = some k → fd_ok RX4 47 t k 2 (.array (.int)) := fd_cons ⟨_, _, _, "LionGateModel", cl_1, by decide, Or.inl q3895, Or.inl rfl, rfl, fun h => absurd h (by decide), fun h => absurd h (by decide)⟩ (fd_nil)
theorem fl_X4_208 : ∀ t k, ([(1, 21)] : List (Nat × Nat)).lookup t = some k → fd_ok RX4 208 t k 0 (.int) := fd_cons ⟨_, _, _, "LionGateModel", cl_1, by decide, Or.inl q3900, Or.inl rfl, rfl, fun _ => rfl, fun h => absurd h (by decide)⟩ (fd_nil)
theorem fl_X4_180 : ∀ t k, ([(1, 18)] : List (Nat × Nat)).lookup t = some k → fd_ok RX4 180 t k 0 (.int) := fd_cons ⟨_, _, _, "LionGateModel", cl_1, by decide, Or.inl q3897, Or.inl rfl, rfl, fun _ => rfl, fun h => absurd h (by decide)⟩ (fd_nil)
theorem fl_X4_32r : ∀ t k, ([(1, 11)] : List (Nat × Nat)).lookup t = some k → fd_ok RX4 32 t k 2 (.array (.int)) := fd_cons ⟨_, _, _, "LionGateModel", cl_1, by decide, Or.inl q3890, Or.inl rfl, rfl, fun h => absurd h (by decide), fun h => absurd h (by decide)⟩ (fd_nil)
theorem fl_X4_38r : ∀ t k, ([(1, 13)] : List (Nat × Nat)).lookup t = some k → fd_ok RX4 38 t k 2 (.array (.int)) := fd_cons ⟨_, _, _, "LionGateModel", cl_1, by decide, Or.inl q3892, Or.inl rfl, rfl, fun h => absurd h (by decide), fun h => absurd h (by decide)⟩ (fd_nil)
theorem fl_X4_44r : ∀ t k, ([(1, 15)] : List (Nat × Nat)).lookup t = some k → fd_ok RX4 44 t k 2 (.array (.int)) := fd_cons ⟨_, _, _, "LionGateModel", cl_1, by decide, Or.inl q3894, Or.inl rfl, rfl, fun h => absurd h (by decide), fun h => absurd h (by decide)⟩ (fd_nil)
theorem fl_X4_41r : ∀ t k, ([(1, 14)] : List (Nat × Nat)).lookup t = some k → fd_ok RX4 41 t k 2 (.array (.int)) := fd_cons ⟨_, _, _, "LionGateModel", cl_1, by decide, Or.inl q3893, Or.inl rfl, rfl, fun h => absurd h (by decide), fun h => absurd h (by decide)⟩ (fd_nil)
theorem nw_L_8 : nw_ok RX0 8 0 [.null, .null, .null, .null, .int 0, .int 0, .int 0, .null] 8 := ⟨_, _, _, cl_0, q177, q178, q96, by decide, fun j v h => by
  match j, h with
  | 0, h => exact ⟨_, rfl, (Option.some.inj h)⟩
  | 1, h => exact ⟨_, rfl, (Option.some.inj h)⟩
  | 2, h => exact ⟨_, rfl, (Option.some.inj h)⟩
  | 3, h => exact ⟨_, rfl, (Option.some.inj h)⟩
  | 4, h => exact ⟨_, rfl, (Option.some.inj h)⟩
  | 5, h => exact ⟨_, rfl, (Option.some.inj h)⟩
  | 6, h => exact ⟨_, rfl, (Option.some.inj h)⟩
  | 7, h => exact ⟨_, rfl, (Option.some.inj h)⟩
  | _ + 8, h => simp at h⟩
theorem nw_L_138 : nw_ok RX0 138 1 [.int 0, .int 0, .int 0, .int 0, .int 0, .int 0, .null, .null, .null, .null, .null, .null, .null, .null, .null, .null, .null, .int 0, .int 0, .int 0, .int 0, .int 0, .int 0, .int 0] 24 := ⟨_, _, _, cl_1, q3873, q3874, q110, by decide, fun j v h => by
  match j, h with
  | 0, h => exact ⟨_, rfl, (Option.some.inj h)⟩
  | 1, h => exact ⟨_, rfl, (Option.some.inj h)⟩
  | 2, h => exact ⟨_, rfl, (Option.some.inj h)⟩
  | 3, h => exact ⟨_, rfl, (Option.some.inj h)⟩
  | 4, h => exact ⟨_, rfl, (Option.some.inj h)⟩
  | 5, h => exact ⟨_, rfl, (Option.some.inj h)⟩
  | 6, h => exact ⟨_, rfl, (Option.some.inj h)⟩
  | 7, h => exact ⟨_, rfl, (Option.some.inj h)⟩
  | 8, h => exact ⟨_, rfl, (Option.some.inj h)⟩
  | 9, h => exact ⟨_, rfl, (Option.some.inj h)⟩
  | 10, h => exact ⟨_, rfl, (Option.some.inj h)⟩
  | 11, h => exact ⟨_, rfl, (Option.some.inj h)⟩
  | 12, h => exact ⟨_, rfl, (Option.some.inj h)⟩
  | 13, h => exact ⟨_, rfl, (Option.some.inj h)⟩
  | 14, h => exact ⟨_, rfl, (Option.some.inj h)⟩
  | 15, h => exact ⟨_, rfl, (Option.some.inj h)⟩
  | 16, h => exact ⟨_, rfl, (Option.some.inj h)⟩
  | 17, h => exact ⟨_, rfl, (Option.some.inj h)⟩
  | 18, h => exact ⟨_, rfl, (Option.some.inj h)⟩
  | 19, h => exact ⟨_, rfl, (Option.some.inj h)⟩
  | 20, h => exact ⟨_, rfl, (Option.some.inj h)⟩
  | 21, h => exact ⟨_, rfl, (Option.some.inj h)⟩
  | 22, h => exact ⟨_, rfl, (Option.some.inj h)⟩
  | 23, h => exact ⟨_, rfl, (Option.some.inj h)⟩
  | _ + 24, h => simp at h⟩
theorem nw_X1_63 : nw_ok RX1 63 2 [.null, .null, .null, .int 0, .int 0, .int 0, .int 0, .int 0, .int 0, .int 0, .int 0] 11 := ⟨_, _, _, cl_2, q185, q186, q97, by decide, fun j v h => by
  match j, h with
  | 0, h => exact ⟨_, rfl, (Option.some.inj h)⟩
  | 1, h => exact ⟨_, rfl, (Option.some.inj h)⟩
  | 2, h => exact ⟨_, rfl, (Option.some.inj h)⟩
  | 3, h => exact ⟨_, rfl, (Option.some.inj h)⟩
  | 4, h => exact ⟨_, rfl, (Option.some.inj h)⟩
  | 5, h => exact ⟨_, rfl, (Option.some.inj h)⟩
  | 6, h => exact ⟨_, rfl, (Option.some.inj h)⟩
  | 7, h => exact ⟨_, rfl, (Option.some.inj h)⟩
  | 8, h => exact ⟨_, rfl, (Option.some.inj h)⟩
  | 9, h => exact ⟨_, rfl, (Option.some.inj h)⟩
  | 10, h => exact ⟨_, rfl, (Option.some.inj h)⟩
  | _ + 11, h => simp at h⟩
theorem nw_X1_72 : nw_ok RX1 72 24 [.int 0, .int 0, .null, .null] 4 := ⟨_, _, _, cl_24, q316, q317, q105, by decide, fun j v h => by
  match j, h with
  | 0, h => exact ⟨_, rfl, (Option.some.inj h)⟩
  | 1, h => exact ⟨_, rfl, (Option.some.inj h)⟩
  | 2, h => exact ⟨_, rfl, (Option.some.inj h)⟩
  | 3, h => exact ⟨_, rfl, (Option.some.inj h)⟩
  | _ + 4, h => simp at h⟩
theorem nw_X1_79 : nw_ok RX1 79 29 [.null, .int 0, .int 0, .int 0] 4 := ⟨_, _, _, cl_29, q337, q338, q107, by decide, fun j v h => by
  match j, h with
  | 0, h => exact ⟨_, rfl, (Option.some.inj h)⟩
  | 1, h => exact ⟨_, rfl, (Option.some.inj h)⟩
  | 2, h => exact ⟨_, rfl, (Option.some.inj h)⟩
  | 3, h => exact ⟨_, rfl, (Option.some.inj h)⟩
  | _ + 4, h => simp at h⟩
theorem nw_X2_9 : nw_ok RX2 9 18 [.null, .null, .null, .null, .int 0, .int 0, .null, .null, .null] 9 := ⟨_, _, _, cl_18, q191, q192, q99, by decide, fun j v h => by
  match j, h with
  | 0, h => exact ⟨_, rfl, (Option.some.inj h)⟩
  | 1, h => exact ⟨_, rfl, (Option.some.inj h)⟩
  | 2, h => exact ⟨_, rfl, (Option.some.inj h)⟩
  | 3, h => exact ⟨_, rfl, (Option.some.inj h)⟩
  | 4, h => exact ⟨_, rfl, (Option.some.inj h)⟩
  | 5, h => exact ⟨_, rfl, (Option.some.inj h)⟩
  | 6, h => exact ⟨_, rfl, (Option.some.inj h)⟩
  | 7, h => exact ⟨_, rfl, (Option.some.inj h)⟩
  | 8, h => exact ⟨_, rfl, (Option.some.inj h)⟩
  | _ + 9, h => simp at h⟩
theorem nw_X2_18 : nw_ok RX2 18 3 [.null] 1 := ⟨_, _, _, cl_3, q228, q229, q100, by decide, fun j v h => by
  match j, h with
  | 0, h => exact ⟨_, rfl, (Option.some.inj h)⟩
  | _ + 1, h => simp at h⟩
theorem nw_X3_9 : nw_ok RX3 9 16 [.int 0, .null, .int 0] 3 := ⟨_, _, _, cl_16, q234, q235, q103, by decide, fun j v h => by
  match j, h with
  | 0, h => exact ⟨_, rfl, (Option.some.inj h)⟩
  | 1, h => exact ⟨_, rfl, (Option.some.inj h)⟩
  | 2, h => exact ⟨_, rfl, (Option.some.inj h)⟩
  | _ + 3, h => simp at h⟩
theorem nw_X2_246 : nw_ok RX2 246 8 [.null, .int 0] 2 := ⟨_, _, _, cl_8, q2719, q2720, q163, by decide, fun j v h => by
  match j, h with
  | 0, h => exact ⟨_, rfl, (Option.some.inj h)⟩
  | 1, h => exact ⟨_, rfl, (Option.some.inj h)⟩
  | _ + 2, h => simp at h⟩
theorem nw_X12_7 : nw_ok RX12 7 16 [.int 0, .null, .int 0] 3 := ⟨_, _, _, cl_16, q2725, q235, q103, by decide, fun j v h => by
  match j, h with
  | 0, h => exact ⟨_, rfl, (Option.some.inj h)⟩
  | 1, h => exact ⟨_, rfl, (Option.some.inj h)⟩
  | 2, h => exact ⟨_, rfl, (Option.some.inj h)⟩
  | _ + 3, h => simp at h⟩
theorem nw_X12_20 : nw_ok RX12 20 9 [] 0 := ⟨_, _, _, cl_9, q2727, q2728, q164, by decide, fun j v h => by
  match j, h with
  | _ + 0, h => simp at h⟩
theorem nw_J11_13 : nw_ok RJ11 13 22 [.null, .null, .int 0, .null] 4 := ⟨_, _, _, cl_22, q1023, q1024, q138, by decide, fun j v h => by
  match j, h with
  | 0, h => exact ⟨_, rfl, (Option.some.inj h)⟩
  | 1, h => exact ⟨_, rfl, (Option.some.inj h)⟩
  | 2, h => exact ⟨_, rfl, (Option.some.inj h)⟩
  | 3, h => exact ⟨_, rfl, (Option.some.inj h)⟩
  | _ + 4, h => simp at h⟩
theorem nw_J1_237 : nw_ok RJ1 237 20 [.null] 1 := ⟨_, _, _, cl_20, q416, q417, q111, by decide, fun j v h => by
  match j, h with
  | 0, h => exact ⟨_, rfl, (Option.some.inj h)⟩
  | _ + 1, h => simp at h⟩
theorem nw_X12_69 : nw_ok RX12 69 27 [.null, .int 0, .null, .int 0] 4 := ⟨_, _, _, cl_27, q2791, q2316, q156, by decide, fun j v h => by
  match j, h with
  | 0, h => exact ⟨_, rfl, (Option.some.inj h)⟩
  | 1, h => exact ⟨_, rfl, (Option.some.inj h)⟩
  | 2, h => exact ⟨_, rfl, (Option.some.inj h)⟩
  | 3, h => exact ⟨_, rfl, (Option.some.inj h)⟩
  | _ + 4, h => simp at h⟩
theorem nw_X12_71 : nw_ok RX12 71 10 [] 0 := ⟨_, _, _, cl_10, q2792, q2793, q165, by decide, fun j v h => by
  match j, h with
  | _ + 0, h => simp at h⟩
theorem nw_J4_267 : nw_ok RJ4 267 17 [.int 0, .int 0, .int 0, .null] 4 := ⟨_, _, _, cl_17, q469, q470, q114, by decide, fun j v h => by
  match j, h with
  | 0, h => exact ⟨_, rfl, (Option.some.inj h)⟩
  | 1, h => exact ⟨_, rfl, (Option.some.inj h)⟩
  | 2, h => exact ⟨_, rfl, (Option.some.inj h)⟩
  | 3, h => exact ⟨_, rfl, (Option.some.inj h)⟩
  | _ + 4, h => simp at h⟩
theorem nw_X3_57 : nw_ok RX3 57 28 [.null, .int 0, .int 0] 3 := ⟨_, _, _, cl_28, q2928, q2929, q166, by decide, fun j v h => by
  match j, h with
  | 0, h => exact ⟨_, rfl, (Option.some.inj h)⟩
  | 1, h => exact ⟨_, rfl, (Option.some.inj h)⟩
  | 2, h => exact ⟨_, rfl, (Option.some.inj h)⟩
  | _ + 3, h => simp at h⟩
theorem nw_X10_2 : nw_ok RX10 2 7 [.null, .null, .null, .int 0] 4 := ⟨_, _, _, cl_7, q2414, q2381, q157, by decide, fun j v h => by
  match j, h with
  | 0, h => exact ⟨_, rfl, (Option.some.inj h)⟩
  | 1, h => exact ⟨_, rfl, (Option.some.inj h)⟩
  | 2, h => exact ⟨_, rfl, (Option.some.inj h)⟩
  | 3, h => exact ⟨_, rfl, (Option.some.inj h)⟩
  | _ + 4, h => simp at h⟩
theorem nw_J27_1 : nw_ok RJ27 1 31 [.int 0] 1 := ⟨_, _, _, cl_31, q1435, q1436, q128, by decide, fun j v h => by
  match j, h with
  | 0, h => exact ⟨_, rfl, (Option.some.inj h)⟩
  | _ + 1, h => simp at h⟩
theorem nw_X1_110 : nw_ok RX1 110 11 [.null, .null] 2 := ⟨_, _, _, cl_11, q1862, q1863, q148, by decide, fun j v h => by
  match j, h with
  | 0, h => exact ⟨_, rfl, (Option.some.inj h)⟩
  | 1, h => exact ⟨_, rfl, (Option.some.inj h)⟩
  | _ + 2, h => simp at h⟩
theorem nw_J6_22 : nw_ok RJ6 22 25 [.null, .null, .null] 3 := ⟨_, _, _, cl_25, q1841, q1842, q147, by decide, fun j v h => by
  match j, h with
  | 0, h => exact ⟨_, rfl, (Option.some.inj h)⟩
  | 1, h => exact ⟨_, rfl, (Option.some.inj h)⟩
  | 2, h => exact ⟨_, rfl, (Option.some.inj h)⟩
  | _ + 3, h => simp at h⟩
theorem nw_X2_46 : nw_ok RX2 46 5 [.int 0, .int 0, .int 0, .null] 4 := ⟨_, _, _, cl_5, q1427, q1998, q151, by decide, fun j v h => by
  match j, h with
  | 0, h => exact ⟨_, rfl, (Option.some.inj h)⟩
  | 1, h => exact ⟨_, rfl, (Option.some.inj h)⟩
  | 2, h => exact ⟨_, rfl, (Option.some.inj h)⟩
  | 3, h => exact ⟨_, rfl, (Option.some.inj h)⟩
  | _ + 4, h => simp at h⟩
theorem nw_X1_1 : nw_ok RX1 1 13 [.null, .null, .null, .null, .null, .int 0, .int 0] 7 := ⟨_, _, _, cl_13, q405, q1969, q150, by decide, fun j v h => by
  match j, h with
  | 0, h => exact ⟨_, rfl, (Option.some.inj h)⟩
  | 1, h => exact ⟨_, rfl, (Option.some.inj h)⟩
  | 2, h => exact ⟨_, rfl, (Option.some.inj h)⟩
  | 3, h => exact ⟨_, rfl, (Option.some.inj h)⟩
  | 4, h => exact ⟨_, rfl, (Option.some.inj h)⟩
  | 5, h => exact ⟨_, rfl, (Option.some.inj h)⟩
  | 6, h => exact ⟨_, rfl, (Option.some.inj h)⟩
  | _ + 7, h => simp at h⟩
theorem nw_X2_99 : nw_ok RX2 99 6 [.int 0, .int 0, .int 0] 3 := ⟨_, _, _, cl_6, q2033, q2034, q152, by decide, fun j v h => by
  match j, h with
  | 0, h => exact ⟨_, rfl, (Option.some.inj h)⟩
  | 1, h => exact ⟨_, rfl, (Option.some.inj h)⟩
  | 2, h => exact ⟨_, rfl, (Option.some.inj h)⟩
  | _ + 3, h => simp at h⟩
theorem nw_X8_8 : nw_ok RX8 8 5 [.int 0, .int 0, .int 0, .null] 4 := ⟨_, _, _, cl_5, q2058, q1998, q151, by decide, fun j v h => by
  match j, h with
  | 0, h => exact ⟨_, rfl, (Option.some.inj h)⟩
  | 1, h => exact ⟨_, rfl, (Option.some.inj h)⟩
  | 2, h => exact ⟨_, rfl, (Option.some.inj h)⟩
  | 3, h => exact ⟨_, rfl, (Option.some.inj h)⟩
  | _ + 4, h => simp at h⟩
theorem nw_X1_7 : nw_ok RX1 7 16 [.int 0, .null, .int 0] 3 := ⟨_, _, _, cl_16, q2067, q235, q103, by decide, fun j v h => by
  match j, h with
  | 0, h => exact ⟨_, rfl, (Option.some.inj h)⟩
  | 1, h => exact ⟨_, rfl, (Option.some.inj h)⟩
  | 2, h => exact ⟨_, rfl, (Option.some.inj h)⟩
  | _ + 3, h => simp at h⟩
theorem nw_X1_12 : nw_ok RX1 12 26 [.null, .int 0, .int 0] 3 := ⟨_, _, _, cl_26, q2069, q2070, q113, by decide, fun j v h => by
  match j, h with
  | 0, h => exact ⟨_, rfl, (Option.some.inj h)⟩
  | 1, h => exact ⟨_, rfl, (Option.some.inj h)⟩
  | 2, h => exact ⟨_, rfl, (Option.some.inj h)⟩
  | _ + 3, h => simp at h⟩
theorem nw_X2_118 : nw_ok RX2 118 7 [.null, .null, .null, .int 0] 4 := ⟨_, _, _, cl_7, q2380, q2381, q157, by decide, fun j v h => by
  match j, h with
  | 0, h => exact ⟨_, rfl, (Option.some.inj h)⟩
  | 1, h => exact ⟨_, rfl, (Option.some.inj h)⟩
  | 2, h => exact ⟨_, rfl, (Option.some.inj h)⟩
  | 3, h => exact ⟨_, rfl, (Option.some.inj h)⟩
  | _ + 4, h => simp at h⟩
theorem nw_J1_59 : nw_ok RJ1 59 19 [.null, .null, .null, .null, .null, .int 0] 6 := ⟨_, _, _, cl_19, q1687, q1688, q145, by decide, fun j v h => by
  match j, h with
  | 0, h => exact ⟨_, rfl, (Option.some.inj h)⟩
  | 1, h => exact ⟨_, rfl, (Option.some.inj h)⟩
  | 2, h => exact ⟨_, rfl, (Option.some.inj h)⟩
  | 3, h => exact ⟨_, rfl, (Option.some.inj h)⟩
  | 4, h => exact ⟨_, rfl, (Option.some.inj h)⟩
  | 5, h => exact ⟨_, rfl, (Option.some.inj h)⟩
  | _ + 6, h => simp at h⟩
theorem nw_X2_223 : nw_ok RX2 223 4 [.int 0, .int 0] 2 := ⟨_, _, _, cl_4, q2487, q2488, q160, by decide, fun j v h => by
  match j, h with
  | 0, h => exact ⟨_, rfl, (Option.some.inj h)⟩
  | 1, h => exact ⟨_, rfl, (Option.some.inj h)⟩
  | _ + 2, h => simp at h⟩
theorem nw_X2_237 : nw_ok RX2 237 16 [.int 0, .null, .int 0] 3 := ⟨_, _, _, cl_16, q2536, q235, q103, by decide, fun j v h => by
  match j, h with
  | 0, h => exact ⟨_, rfl, (Option.some.inj h)⟩
  | 1, h => exact ⟨_, rfl, (Option.some.inj h)⟩
  | 2, h => exact ⟨_, rfl, (Option.some.inj h)⟩
  | _ + 3, h => simp at h⟩
theorem nw_J1_269 : nw_ok RJ1 269 23 [.null, .null, .int 0, .null] 4 := ⟨_, _, _, cl_23, q1001, q1002, q137, by decide, fun j v h => by
  match j, h with
  | 0, h => exact ⟨_, rfl, (Option.some.inj h)⟩
  | 1, h => exact ⟨_, rfl, (Option.some.inj h)⟩
  | 2, h => exact ⟨_, rfl, (Option.some.inj h)⟩
  | 3, h => exact ⟨_, rfl, (Option.some.inj h)⟩
  | _ + 4, h => simp at h⟩
theorem nw_X2_13 : nw_ok RX2 13 2 [.null, .null, .null, .int 0, .int 0, .int 0, .int 0, .int 0, .int 0, .int 0, .int 0] 11 := ⟨_, _, _, cl_2, q410, q186, q97, by decide, fun j v h => by
  match j, h with
  | 0, h => exact ⟨_, rfl, (Option.some.inj h)⟩
  | 1, h => exact ⟨_, rfl, (Option.some.inj h)⟩
  | 2, h => exact ⟨_, rfl, (Option.some.inj h)⟩
  | 3, h => exact ⟨_, rfl, (Option.some.inj h)⟩
  | 4, h => exact ⟨_, rfl, (Option.some.inj h)⟩
  | 5, h => exact ⟨_, rfl, (Option.some.inj h)⟩
  | 6, h => exact ⟨_, rfl, (Option.some.inj h)⟩
  | 7, h => exact ⟨_, rfl, (Option.some.inj h)⟩
  | 8, h => exact ⟨_, rfl, (Option.some.inj h)⟩
  | 9, h => exact ⟨_, rfl, (Option.some.inj h)⟩
  | 10, h => exact ⟨_, rfl, (Option.some.inj h)⟩
  | _ + 11, h => simp at h⟩
theorem nw_X3_13 : nw_ok RX3 13 3 [.null] 1 := ⟨_, _, _, cl_3, q1758, q229, q100, by decide, fun j v h => by
  match j, h with
  | 0, h => exact ⟨_, rfl, (Option.some.inj h)⟩
  | _ + 1, h => simp at h⟩
theorem nw_X2_251 : nw_ok RX2 251 29 [.null, .int 0, .int 0, .int 0] 4 := ⟨_, _, _, cl_29, q3020, q338, q107, by decide, fun j v h => by
  match j, h with
  | 0, h => exact ⟨_, rfl, (Option.some.inj h)⟩
  | 1, h => exact ⟨_, rfl, (Option.some.inj h)⟩
  | 2, h => exact ⟨_, rfl, (Option.some.inj h)⟩
  | 3, h => exact ⟨_, rfl, (Option.some.inj h)⟩
  | _ + 4, h => simp at h⟩
theorem nw_J8_18 : nw_ok RJ8 18 30 [.null, .int 0, .int 0, .int 0] 4 := ⟨_, _, _, cl_30, q758, q759, q108, by decide, fun j v h => by
  match j, h with
  | 0, h => exact ⟨_, rfl, (Option.some.inj h)⟩
  | 1, h => exact ⟨_, rfl, (Option.some.inj h)⟩
  | 2, h => exact ⟨_, rfl, (Option.some.inj h)⟩
  | 3, h => exact ⟨_, rfl, (Option.some.inj h)⟩
  | _ + 4, h => simp at h⟩
theorem nw_J1_222 : nw_ok RJ1 222 21 [.null] 1 := ⟨_, _, _, cl_21, q3147, q3148, q162, by decide, fun j v h => by
  match j, h with
  | 0, h => exact ⟨_, rfl, (Option.some.inj h)⟩
  | _ + 1, h => simp at h⟩
theorem nw_X8_31 : nw_ok RX8 31 29 [.null, .int 0, .int 0, .int 0] 4 := ⟨_, _, _, cl_29, q3380, q338, q107, by decide, fun j v h => by
  match j, h with
  | 0, h => exact ⟨_, rfl, (Option.some.inj h)⟩
  | 1, h => exact ⟨_, rfl, (Option.some.inj h)⟩
  | 2, h => exact ⟨_, rfl, (Option.some.inj h)⟩
  | 3, h => exact ⟨_, rfl, (Option.some.inj h)⟩
  | _ + 4, h => simp at h⟩
theorem nw_X1_408 : nw_ok RX1 408 12 [.null, .null, .int 0] 3 := ⟨_, _, _, cl_12, q3451, q3452, q168, by decide, fun j v h => by
  match j, h with
  | 0, h => exact ⟨_, rfl, (Option.some.inj h)⟩
  | 1, h => exact ⟨_, rfl, (Option.some.inj h)⟩
  | 2, h => exact ⟨_, rfl, (Option.some.inj h)⟩
  | _ + 3, h => simp at h⟩
theorem nw_X1_386 : nw_ok RX1 386 14 [.null, .null, .null, .null, .null, .int 0, .int 0] 7 := ⟨_, _, _, cl_14, q3449, q3710, q175, by decide, fun j v h => by
  match j, h with
  | 0, h => exact ⟨_, rfl, (Option.some.inj h)⟩
  | 1, h => exact ⟨_, rfl, (Option.some.inj h)⟩
  | 2, h => exact ⟨_, rfl, (Option.some.inj h)⟩
  | 3, h => exact ⟨_, rfl, (Option.some.inj h)⟩
  | 4, h => exact ⟨_, rfl, (Option.some.inj h)⟩
  | 5, h => exact ⟨_, rfl, (Option.some.inj h)⟩
  | 6, h => exact ⟨_, rfl, (Option.some.inj h)⟩
  | _ + 7, h => simp at h⟩
theorem nw_J16_12 : nw_ok RJ16 12 32 [.null, .int 0] 2 := ⟨_, _, _, cl_32, q3503, q3504, q173, by decide, fun j v h => by
  match j, h with
  | 0, h => exact ⟨_, rfl, (Option.some.inj h)⟩
  | 1, h => exact ⟨_, rfl, (Option.some.inj h)⟩
  | _ + 2, h => simp at h⟩
theorem nw_X15_138 : nw_ok RX15 138 16 [.int 0, .null, .int 0] 3 := ⟨_, _, _, cl_16, q3530, q235, q103, by decide, fun j v h => by
  match j, h with
  | 0, h => exact ⟨_, rfl, (Option.some.inj h)⟩
  | 1, h => exact ⟨_, rfl, (Option.some.inj h)⟩
  | 2, h => exact ⟨_, rfl, (Option.some.inj h)⟩
  | _ + 3, h => simp at h⟩
theorem nw_X15_133 : nw_ok RX15 133 11 [.null, .null] 2 := ⟨_, _, _, cl_11, q3702, q1863, q148, by decide, fun j v h => by
  match j, h with
  | 0, h => exact ⟨_, rfl, (Option.some.inj h)⟩
  | 1, h => exact ⟨_, rfl, (Option.some.inj h)⟩
  | _ + 2, h => simp at h⟩
theorem nw_X15_55 : nw_ok RX15 55 15 [.null, .null, .null, .null, .null, .int 0, .int 0] 7 := ⟨_, _, _, cl_15, q3578, q3579, q174, by decide, fun j v h => by
  match j, h with
  | 0, h => exact ⟨_, rfl, (Option.some.inj h)⟩
  | 1, h => exact ⟨_, rfl, (Option.some.inj h)⟩
  | 2, h => exact ⟨_, rfl, (Option.some.inj h)⟩
  | 3, h => exact ⟨_, rfl, (Option.some.inj h)⟩
  | 4, h => exact ⟨_, rfl, (Option.some.inj h)⟩
  | 5, h => exact ⟨_, rfl, (Option.some.inj h)⟩
  | 6, h => exact ⟨_, rfl, (Option.some.inj h)⟩
  | _ + 7, h => simp at h⟩
theorem nw_X15_80 : nw_ok RX15 80 29 [.null, .int 0, .int 0, .int 0] 4 := ⟨_, _, _, cl_29, q3540, q338, q107, by decide, fun j v h => by
  match j, h with
  | 0, h => exact ⟨_, rfl, (Option.some.inj h)⟩
  | 1, h => exact ⟨_, rfl, (Option.some.inj h)⟩
  | 2, h => exact ⟨_, rfl, (Option.some.inj h)⟩
  | 3, h => exact ⟨_, rfl, (Option.some.inj h)⟩
  | _ + 4, h => simp at h⟩
theorem nw_J56_61 : nw_ok RJ56 61 33 [.null, .int 0, .int 0, .int 0] 4 := ⟨_, _, _, cl_33, q496, q497, q115, by decide, fun j v h => by
  match j, h with
  | 0, h => exact ⟨_, rfl, (Option.some.inj h)⟩
  | 1, h => exact ⟨_, rfl, (Option.some.inj h)⟩
  | 2, h => exact ⟨_, rfl, (Option.some.inj h)⟩
  | 3, h => exact ⟨_, rfl, (Option.some.inj h)⟩
  | _ + 4, h => simp at h⟩
theorem ca_LionGate_Lion : ∀ t ∈ [5], ca_ok t "LionGate$Lion" := List.forall_mem_cons.mpr ⟨Or.inl ⟨by decide, _, _, rfl⟩, fun _ h => absurd h List.not_mem_nil⟩
theorem ca_LionGate_Keeper : ∀ t ∈ [4], ca_ok t "LionGate$Keeper" := List.forall_mem_cons.mpr ⟨Or.inl ⟨by decide, _, _, rfl⟩, fun _ h => absurd h List.not_mem_nil⟩
theorem ca__J : ∀ t ∈ [102], ca_ok t "[J" := List.forall_mem_cons.mpr ⟨Or.inr (Or.inr ⟨2, _, by decide, fun _ => rfl, rfl⟩), fun _ h => absurd h List.not_mem_nil⟩
theorem ca_java_lang_Comparable : ∀ t ∈ [29, 30, 31], ca_ok t "java/lang/Comparable" := List.forall_mem_cons.mpr ⟨Or.inr (Or.inl ⟨by decide, _, _, _, rfl, q1629⟩), List.forall_mem_cons.mpr ⟨Or.inr (Or.inl ⟨by decide, _, _, _, rfl, q1482⟩), List.forall_mem_cons.mpr ⟨Or.inr (Or.inl ⟨by decide, _, _, _, rfl, q1469⟩), fun _ h => absurd h List.not_mem_nil⟩⟩⟩
theorem ca_java_lang_Integer : ∀ t ∈ [31], ca_ok t "java/lang/Integer" := List.forall_mem_cons.mpr ⟨Or.inl ⟨by decide, _, _, rfl⟩, fun _ h => absurd h List.not_mem_nil⟩
theorem cx_LionGate_ConditionFailure_13 : ∀ t ∈ [13], ca_ok t "LionGate$ConditionFailure" ∧ t < 100 := List.forall_mem_cons.mpr ⟨⟨Or.inl ⟨by decide, _, _, rfl⟩, by decide⟩, fun _ h => absurd h List.not_mem_nil⟩
theorem ca_LionGate_Ticket : ∀ t ∈ [6], ca_ok t "LionGate$Ticket" := List.forall_mem_cons.mpr ⟨Or.inl ⟨by decide, _, _, rfl⟩, fun _ h => absurd h List.not_mem_nil⟩
theorem ca_LionGate_Node : ∀ t ∈ [7], ca_ok t "LionGate$Node" := List.forall_mem_cons.mpr ⟨Or.inl ⟨by decide, _, _, rfl⟩, fun _ h => absurd h List.not_mem_nil⟩
theorem ca_java_util_TreeMap : ∀ t ∈ [18], ca_ok t "java/util/TreeMap" := List.forall_mem_cons.mpr ⟨Or.inl ⟨by decide, _, _, rfl⟩, fun _ h => absurd h List.not_mem_nil⟩
theorem nc_java_util_TreeMap_ : ∀ t ∈ ([] : List Nat), nc_ok t "java/util/TreeMap" := fun _ h => absurd h List.not_mem_nil
theorem ca_java_lang_String : ∀ t ∈ [30], ca_ok t "java/lang/String" := List.forall_mem_cons.mpr ⟨Or.inl ⟨by decide, _, _, rfl⟩, fun _ h => absurd h List.not_mem_nil⟩
theorem nc_java_lang_String_ : ∀ t ∈ ([] : List Nat), nc_ok t "java/lang/String" := fun _ h => absurd h List.not_mem_nil
theorem ca__B : ∀ t ∈ [101], ca_ok t "[B" := List.forall_mem_cons.mpr ⟨Or.inr (Or.inr ⟨1, _, by decide, fun _ => rfl, rfl⟩), fun _ h => absurd h List.not_mem_nil⟩
theorem nc__B_ : ∀ t ∈ ([] : List Nat), nc_ok t "[B" := fun _ h => absurd h List.not_mem_nil
theorem ca__I : ∀ t ∈ [100], ca_ok t "[I" := List.forall_mem_cons.mpr ⟨Or.inr (Or.inr ⟨0, _, by decide, fun _ => rfl, rfl⟩), fun _ h => absurd h List.not_mem_nil⟩
theorem cx_java_lang_IllegalArgumentException_35 : ∀ t ∈ [35], ca_ok t "java/lang/IllegalArgumentException" ∧ t < 100 := List.forall_mem_cons.mpr ⟨⟨Or.inl ⟨by decide, _, _, rfl⟩, by decide⟩, fun _ h => absurd h List.not_mem_nil⟩
theorem nc_java_lang_IllegalArgumentException_36 : ∀ t ∈ ([36] : List Nat), nc_ok t "java/lang/IllegalArgumentException" := List.forall_mem_cons.mpr ⟨⟨by decide, _, _, _, rfl, ev_n 0 rfl⟩, fun _ h => absurd h List.not_mem_nil⟩
theorem cx_java_lang_IllegalStateException_36 : ∀ t ∈ [36], ca_ok t "java/lang/IllegalStateException" ∧ t < 100 := List.forall_mem_cons.mpr ⟨⟨Or.inl ⟨by decide, _, _, rfl⟩, by decide⟩, fun _ h => absurd h List.not_mem_nil⟩
theorem cx_java_util_NoSuchElementException_34 : ∀ t ∈ [34], ca_ok t "java/util/NoSuchElementException" ∧ t < 100 := List.forall_mem_cons.mpr ⟨⟨Or.inl ⟨by decide, _, _, rfl⟩, by decide⟩, fun _ h => absurd h List.not_mem_nil⟩
theorem cx_java_lang_IndexOutOfBoundsException_37 : ∀ t ∈ [37], ca_ok t "java/lang/IndexOutOfBoundsException" ∧ t < 100 := List.forall_mem_cons.mpr ⟨⟨Or.inl ⟨by decide, _, _, rfl⟩, by decide⟩, fun _ h => absurd h List.not_mem_nil⟩
theorem nc_java_lang_IllegalArgumentException_38 : ∀ t ∈ ([38] : List Nat), nc_ok t "java/lang/IllegalArgumentException" := List.forall_mem_cons.mpr ⟨⟨by decide, _, _, _, rfl, ev_n 3 rfl⟩, fun _ h => absurd h List.not_mem_nil⟩
theorem cx_java_lang_UnsupportedOperationException_38 : ∀ t ∈ [38], ca_ok t "java/lang/UnsupportedOperationException" ∧ t < 100 := List.forall_mem_cons.mpr ⟨⟨Or.inl ⟨by decide, _, _, rfl⟩, by decide⟩, fun _ h => absurd h List.not_mem_nil⟩
theorem cx_java_lang_ArithmeticException_39 : ∀ t ∈ [39], ca_ok t "java/lang/ArithmeticException" ∧ t < 100 := List.forall_mem_cons.mpr ⟨⟨Or.inl ⟨by decide, _, _, rfl⟩, by decide⟩, fun _ h => absurd h List.not_mem_nil⟩
theorem nc_java_util_NoSuchElementException_35 : ∀ t ∈ ([35] : List Nat), nc_ok t "java/util/NoSuchElementException" := List.forall_mem_cons.mpr ⟨⟨by decide, _, _, _, rfl, ev_n 1 rfl⟩, fun _ h => absurd h List.not_mem_nil⟩
theorem cx_LionGate_SyntaxFailure_15 : ∀ t ∈ [15], ca_ok t "LionGate$SyntaxFailure" ∧ t < 100 := List.forall_mem_cons.mpr ⟨⟨Or.inl ⟨by decide, _, _, rfl⟩, by decide⟩, fun _ h => absurd h List.not_mem_nil⟩
theorem nc_LionGate_SyntaxFailure_14 : ∀ t ∈ ([14] : List Nat), nc_ok t "LionGate$SyntaxFailure" := List.forall_mem_cons.mpr ⟨⟨by decide, _, _, _, rfl, ev_n 4 rfl⟩, fun _ h => absurd h List.not_mem_nil⟩
theorem cx_LionGate_CommandFailure_14 : ∀ t ∈ [14], ca_ok t "LionGate$CommandFailure" ∧ t < 100 := List.forall_mem_cons.mpr ⟨⟨Or.inl ⟨by decide, _, _, rfl⟩, by decide⟩, fun _ h => absurd h List.not_mem_nil⟩
theorem nc_LionGate_SyntaxFailure_ : ∀ t ∈ ([] : List Nat), nc_ok t "LionGate$SyntaxFailure" := fun _ h => absurd h List.not_mem_nil
theorem nc_LionGate_CommandFailure_ : ∀ t ∈ ([] : List Nat), nc_ok t "LionGate$CommandFailure" := fun _ h => absurd h List.not_mem_nil
theorem ca_LionGate_Command : ∀ t ∈ [11], ca_ok t "LionGate$Command" := List.forall_mem_cons.mpr ⟨Or.inl ⟨by decide, _, _, rfl⟩, fun _ h => absurd h List.not_mem_nil⟩
theorem ca_LionGate_SyntaxFailure : ∀ t ∈ [15], ca_ok t "LionGate$SyntaxFailure" := List.forall_mem_cons.mpr ⟨Or.inl ⟨by decide, _, _, rfl⟩, fun _ h => absurd h List.not_mem_nil⟩
theorem ca_LionGate_CommandFailure : ∀ t ∈ [14], ca_ok t "LionGate$CommandFailure" := List.forall_mem_cons.mpr ⟨Or.inl ⟨by decide, _, _, rfl⟩, fun _ h => absurd h List.not_mem_nil⟩
theorem ca_LionGate_ConditionFailure : ∀ t ∈ [13], ca_ok t "LionGate$ConditionFailure" := List.forall_mem_cons.mpr ⟨Or.inl ⟨by decide, _, _, rfl⟩, fun _ h => absurd h List.not_mem_nil⟩
theorem nc_LionGate_ConditionFailure_ : ∀ t ∈ ([] : List Nat), nc_ok t "LionGate$ConditionFailure" := fun _ h => absurd h List.not_mem_nil
theorem nc_java_util_NoSuchElementException_38 : ∀ t ∈ ([38] : List Nat), nc_ok t "java/util/NoSuchElementException" := List.forall_mem_cons.mpr ⟨⟨by decide, _, _, _, rfl, ev_n 2 rfl⟩, fun _ h => absurd h List.not_mem_nil⟩
theorem ca_LionGate_Queue : ∀ t ∈ [2], ca_ok t "LionGate$Queue" := List.forall_mem_cons.mpr ⟨Or.inl ⟨by decide, _, _, rfl⟩, fun _ h => absurd h List.not_mem_nil⟩
theorem ex_X1_149_3270 : ex_ok RX1 149 151 37 := ⟨RJ20, TJ20, ["java/lang/RuntimeException", "java/lang/Exception"], rfl, q3269, by decide, by decide, by decide, q120, ex_split [117, 573, 582, 595, 598, 600, 574, 575, 183, 184, 576, 581, 596, 819, 563, 820, 565, 821, 567, 577, 579, 569, 2680, 2681, 2682, 1287, 1287, 1288, 1289, 1290, 1290, 1291, 1292, 574, 3270, 552, 560, 561, 562, 564, 566, 568, 817, 571, 570] [554, 556, 558, 553] (by decide +kernel) (by decide +kernel) (by decide +kernel)⟩
theorem ex_X1_152_3293 : ex_ok RX1 152 154 35 := ⟨RJ28, TJ28, ["java/lang/RuntimeException", "java/lang/Exception"], rfl, q3292, by decide, by decide, by decide, q129, ex_split [117, 573, 582, 595, 598, 600, 574, 575, 183, 184, 576, 581, 596, 819, 563, 820, 565, 821, 567, 577, 579, 569, 2685, 2686, 2687, 1287, 1287, 1288, 1289, 1290, 1290, 1291, 1292, 574, 3293, 791, 793, 589, 794, 795, 796, 797, 817, 571, 798] [554, 556, 558, 792] (by decide +kernel) (by decide +kernel) (by decide +kernel)⟩
theorem ex_X1_155_3138 : ex_ok RX1 155 157 34 := ⟨RJ38, TJ38, ["java/lang/RuntimeException", "java/lang/Exception"], rfl, q3137, by decide, by decide, by decide, q140, ex_split [117, 573, 582, 595, 598, 600, 574, 575, 183, 184, 576, 581, 596, 819, 563, 820, 565, 821, 567, 577, 579, 569, 1284, 1285, 1286, 1287, 1287, 1288, 1289, 1290, 1290, 1291, 1292, 574, 3138, 1145, 1147, 594, 1148, 1149, 1150, 1151, 817, 571, 1152] [554, 556, 558, 1146] (by decide +kernel) (by decide +kernel) (by decide +kernel)⟩
theorem ex_X1_158_3427 : ex_ok RX1 158 160 36 := ⟨RJ44, TJ44, ["java/lang/RuntimeException", "java/lang/Exception"], rfl, q3426, by decide, by decide, by decide, q153, ex_split [117, 573, 582, 595, 598, 600, 574, 575, 183, 184, 576, 581, 596, 819, 563, 820, 565, 821, 567, 577, 579, 569, 2226, 2227, 2228, 1287, 1287, 1288, 1289, 1290, 1290, 1291, 1292, 574, 3427, 2109, 2111, 590, 2112, 2113, 2114, 2115, 817, 571, 2116] [554, 556, 558, 2110] (by decide +kernel) (by decide +kernel) (by decide +kernel)⟩
theorem ex_X1_161_3319 : ex_ok RX1 161 163 38 := ⟨RJ42, TJ42, ["java/lang/RuntimeException", "java/lang/Exception"], rfl, q3318, by decide, by decide, by decide, q146, ex_split [117, 573, 582, 595, 598, 600, 574, 575, 183, 184, 576, 581, 596, 819, 563, 820, 565, 821, 567, 577, 579, 569, 1825, 1826, 1827, 1287, 1287, 1288, 1289, 1290, 1290, 1291, 1292, 574, 3319, 1816, 1818, 592, 1819, 1820, 1821, 1822, 817, 571, 1823] [554, 556, 558, 1817] (by decide +kernel) (by decide +kernel) (by decide +kernel)⟩
theorem ex_X1_346_3354 : ex_ok RX1 346 348 39 := ⟨RJ53, TJ53, ["java/lang/RuntimeException", "java/lang/Exception"], rfl, q3353, by decide, by decide, by decide, q167, ex_split [117, 573, 582, 595, 598, 600, 574, 575, 183, 184, 576, 581, 596, 819, 563, 820, 565, 821, 567, 577, 579, 569, 3355, 3356, 3357, 1287, 1287, 1288, 1289, 1290, 1290, 1291, 1292, 574, 3354, 3333, 3345, 587, 3339, 3340, 3342, 3338, 817, 571, 3337] [554, 556, 558, 3344] (by decide +kernel) (by decide +kernel) (by decide +kernel)⟩
theorem ex_X17_23_3813 : ex_ok RX17 23 25 36 := ⟨RJ44, TJ44, ["java/lang/RuntimeException", "java/lang/Exception"], rfl, q3812, by decide, by decide, by decide, q153, ex_split [117, 573, 582, 595, 598, 600, 574, 575, 183, 184, 576, 581, 596, 819, 563, 820, 565, 821, 567, 577, 579, 569, 2226, 2227, 2228, 1287, 1287, 1288, 1289, 1290, 1290, 1291, 1292, 574, 3813, 2109, 2111, 590, 2112, 2113, 2114, 2115, 817, 571, 2116] [554, 556, 558, 2110] (by decide +kernel) (by decide +kernel) (by decide +kernel)⟩
theorem ex_X7_13_2679 : ex_ok RX7 13 15 37 := ⟨RJ20, TJ20, ["java/lang/RuntimeException", "java/lang/Exception"], rfl, q2678, by decide, by decide, by decide, q120, ex_split [117, 573, 582, 595, 598, 600, 574, 575, 183, 184, 576, 581, 596, 819, 563, 820, 565, 821, 567, 577, 579, 569, 2680, 2681, 2682, 1287, 1287, 1288, 1289, 1290, 1290, 1291, 1292, 574, 2679, 552, 560, 561, 562, 564, 566, 568, 817, 571, 570] [554, 556, 558, 553] (by decide +kernel) (by decide +kernel) (by decide +kernel)⟩
theorem ex_X7_18_2684 : ex_ok RX7 18 20 35 := ⟨RJ28, TJ28, ["java/lang/RuntimeException", "java/lang/Exception"], rfl, q2683, by decide, by decide, by decide, q129, ex_split [117, 573, 582, 595, 598, 600, 574, 575, 183, 184, 576, 581, 596, 819, 563, 820, 565, 821, 567, 577, 579, 569, 2685, 2686, 2687, 1287, 1287, 1288, 1289, 1290, 1290, 1291, 1292, 574, 2684, 791, 793, 589, 794, 795, 796, 797, 817, 571, 798] [554, 556, 558, 792] (by decide +kernel) (by decide +kernel) (by decide +kernel)⟩
theorem ex_X7_21_2689 : ex_ok RX7 21 23 36 := ⟨RJ44, TJ44, ["java/lang/RuntimeException", "java/lang/Exception"], rfl, q2688, by decide, by decide, by decide, q153, ex_split [117, 573, 582, 595, 598, 600, 574, 575, 183, 184, 576, 581, 596, 819, 563, 820, 565, 821, 567, 577, 579, 569, 2226, 2227, 2228, 1287, 1287, 1288, 1289, 1290, 1290, 1291, 1292, 574, 2689, 2109, 2111, 590, 2112, 2113, 2114, 2115, 817, 571, 2116] [554, 556, 558, 2110] (by decide +kernel) (by decide +kernel) (by decide +kernel)⟩
theorem ex_X7_24_2691 : ex_ok RX7 24 26 34 := ⟨RJ38, TJ38, ["java/lang/RuntimeException", "java/lang/Exception"], rfl, q2690, by decide, by decide, by decide, q140, ex_split [117, 573, 582, 595, 598, 600, 574, 575, 183, 184, 576, 581, 596, 819, 563, 820, 565, 821, 567, 577, 579, 569, 1284, 1285, 1286, 1287, 1287, 1288, 1289, 1290, 1290, 1291, 1292, 574, 2691, 1145, 1147, 594, 1148, 1149, 1150, 1151, 817, 571, 1152] [554, 556, 558, 1146] (by decide +kernel) (by decide +kernel) (by decide +kernel)⟩
theorem ex_X7_27_2693 : ex_ok RX7 27 29 38 := ⟨RJ42, TJ42, ["java/lang/RuntimeException", "java/lang/Exception"], rfl, q2692, by decide, by decide, by decide, q146, ex_split [117, 573, 582, 595, 598, 600, 574, 575, 183, 184, 576, 581, 596, 819, 563, 820, 565, 821, 567, 577, 579, 569, 1825, 1826, 1827, 1287, 1287, 1288, 1289, 1290, 1290, 1291, 1292, 574, 2693, 1816, 1818, 592, 1819, 1820, 1821, 1822, 817, 571, 1823] [554, 556, 558, 1817] (by decide +kernel) (by decide +kernel) (by decide +kernel)⟩
theorem ex_X16_13_3819 : ex_ok RX16 13 15 35 := ⟨RJ28, TJ28, ["java/lang/RuntimeException", "java/lang/Exception"], rfl, q3818, by decide, by decide, by decide, q129, ex_split [117, 573, 582, 595, 598, 600, 574, 575, 183, 184, 576, 581, 596, 819, 563, 820, 565, 821, 567, 577, 579, 569, 2685, 2686, 2687, 1287, 1287, 1288, 1289, 1290, 1290, 1291, 1292, 574, 3819, 791, 793, 589, 794, 795, 796, 797, 817, 571, 798] [554, 556, 558, 792] (by decide +kernel) (by decide +kernel) (by decide +kernel)⟩
