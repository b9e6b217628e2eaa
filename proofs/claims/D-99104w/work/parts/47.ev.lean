/-! EVIDENCE: methods 150 to 199 -/
set_option maxRecDepth 100000
set_option maxHeartbeats 4000000
theorem xe_150_0 {s0 : State} {A0 : Array Value} {D : va_G} {ta : Nat → ClassId} {l : Launch} : XAll s0 A0 D ta l 150 xk_150_0 :=
  xA0 (ok_lconst (xdd xB_150 dX11_packed_0) rfl rfl (xrgL rfl)) <|
  xA0 (ok_lstore_n (xdd xB_150 dX11_packed_1) rfl rfl) <|
  xA0 (ok_iconst (xdd xB_150 dX11_packed_2) rfl rfl (xrg rfl)) <|
  xA0 (ok_istore_n (xdd xB_150 dX11_packed_3) rfl rfl) <|
  xA0 (ok_iload_n (xdd xB_150 dX11_packed_4) rfl rfl) <|
  xA0 (ok_aload_n (xdd xB_150 dX11_packed_5) rfl rfl) <|
  xAK rfl (xC1 (ok_callV (xdd xB_150 dX11_packed_6) rfl xq_16 rfl xp_268_0 q1678 q1679 q1680 q126 q1681) xC0) <|
  xAB (ok_icmp_ge (xdd xB_150 dX11_packed_9) rfl rfl) <|
  xA0 (ok_ldc2 (xdd xB_150 dX11_packed_12) rfl q1658 rfl (xrgL rfl)) <|
  xA0 (ok_lload_n (xdd xB_150 dX11_packed_15) rfl rfl) <|
  xA1 (ok_lmul (xdd xB_150 dX11_packed_16) rfl) <|
  xA0 (ok_aload_n (xdd xB_150 dX11_packed_17) rfl rfl) <|
  xA0 (ok_iload_n (xdd xB_150 dX11_packed_18) rfl rfl) <|
  xAK rfl (xC1 (ok_callV (xdd xB_150 dX11_packed_19) rfl xq_16 rfl xp_270_1 q1686 q1687 q1688 q126 q1689) xC0) <|
  xA0 (ok_bipush (xdd xB_150 dX11_packed_22) rfl rfl (xrg rfl)) <|
  xA1 (ok_isub (xdd xB_150 dX11_packed_24) rfl) <|
  xA0 (ok_iconst (xdd xB_150 dX11_packed_25) rfl rfl (xrg rfl)) <|
  xA1 (ok_iadd (xdd xB_150 dX11_packed_26) rfl) <|
  xA0 (ok_i2l (xdd xB_150 dX11_packed_27) rfl) <|
  xA1 (ok_ladd (xdd xB_150 dX11_packed_28) rfl) <|
  xA0 (ok_lstore_n (xdd xB_150 dX11_packed_29) rfl rfl) <|
  xA1 (ok_iinc (xdd xB_150 dX11_packed_30) rfl) <|
  xAe
theorem xe_150_1 {s0 : State} {A0 : Array Value} {D : va_G} {ta : Nat → ClassId} {l : Launch} : XAll s0 A0 D ta l 150 xk_150_1 :=
  xA0 (ok_goto (xdd xB_150 dX11_packed_33) rfl) <|
  xA0 (ok_lload_n (xdd xB_150 dX11_packed_36) rfl rfl) <|
  xAR (ok_lreturn (xdd xB_150 dX11_packed_37) rfl) <|
  xAe
theorem xe_150 {s0 : State} {A0 : Array Value} {D : va_G} {ta : Nat → ClassId} {l : Launch} : XAllC s0 A0 D ta l 150 xk_150 := ⟨xe_150_0, xe_150_1, trivial⟩
theorem xe_151_0 {s0 : State} {A0 : Array Value} {D : va_G} {ta : Nat → ClassId} {l : Launch} : XAll s0 A0 D ta l 151 xk_151_0 :=
  xA0 (ok_aload_n (xdd xB_151 dX11_readTown_0) rfl rfl) <|
  xA1 (ok_getA (xdd xB_151 dX11_readTown_1) rfl (lk_f q1407) rfl) <|
  xA1 (ok_getI (xdd xB_151 dX11_readTown_4) rfl (lk_n q1543) (by decide)) <|
  xAB (ok_if_le (xdd xB_151 dX11_readTown_7) rfl rfl) <|
  xA0 (ok_aload_n (xdd xB_151 dX11_readTown_10) rfl rfl) <|
  xA0 (ok_iconst (xdd xB_151 dX11_readTown_11) rfl rfl (xrg rfl)) <|
  xAK rfl (xC1 (ok_callV (xdd xB_151 dX11_readTown_12) rfl xq_9 rfl xp_152_1 q1710 q1712 qs56 q124 q1713) xC0) <|
  xA0 (ok_aload_n (xdd xB_151 dX11_readTown_15) rfl rfl) <|
  xAK rfl (xC1 (ok_callV (xdd xB_151 dX11_readTown_16) rfl xq_9 rfl xp_143_0 q1647 q1649 qs50 q124 q1650) xC0) <|
  xA0 (ok_aload_n (xdd xB_151 dX11_readTown_19) rfl rfl) <|
  xA0 (ok_ldcS (xdd xB_151 dX11_readTown_20) rfl rfl) <|
  xA0 (ok_iconst (xdd xB_151 dX11_readTown_22) rfl rfl (xrg rfl)) <|
  xA0 (ok_bipush (xdd xB_151 dX11_readTown_23) rfl rfl (xrg rfl)) <|
  xAK rfl (xC1 (ok_callV (xdd xB_151 dX11_readTown_25) rfl xq_9 rfl xp_153_3 q1715 q1717 qs57 q124 q1718) xC0) <|
  xA0 (ok_istore_n (xdd xB_151 dX11_readTown_28) rfl rfl) <|
  xA0 (ok_aload_n (xdd xB_151 dX11_readTown_29) rfl rfl) <|
  xA0 (ok_ldcS (xdd xB_151 dX11_readTown_30) rfl rfl) <|
  xAe
theorem xe_151_1 {s0 : State} {A0 : Array Value} {D : va_G} {ta : Nat → ClassId} {l : Launch} : XAll s0 A0 D ta l 151 xk_151_1 :=
  xA0 (ok_iconst (xdd xB_151 dX11_readTown_32) rfl rfl (xrg rfl)) <|
  xA0 (ok_bipush (xdd xB_151 dX11_readTown_33) rfl rfl (xrg rfl)) <|
  xAK rfl (xC1 (ok_callV (xdd xB_151 dX11_readTown_35) rfl xq_9 rfl xp_153_3 q1715 q1717 qs57 q124 q1718) xC0) <|
  xA0 (ok_istore_n (xdd xB_151 dX11_readTown_38) rfl rfl) <|
  xA0 (ok_aload_n (xdd xB_151 dX11_readTown_39) rfl rfl) <|
  xA1 (ok_getI (xdd xB_151 dX11_readTown_40) rfl (lk_f q1412) (by decide)) <|
  xA0 (ok_iconst (xdd xB_151 dX11_readTown_43) rfl rfl (xrg rfl)) <|
  xAB (ok_icmp_ne (xdd xB_151 dX11_readTown_44) rfl rfl) <|
  xAR (ok_vreturn (xdd xB_151 dX11_readTown_47) rfl) <|
  xA0 (ok_aload_n (xdd xB_151 dX11_readTown_48) rfl rfl) <|
  xA1 (ok_getA (xdd xB_151 dX11_readTown_49) rfl (lk_f q1407) rfl) <|
  xA0 (ok_iload_n (xdd xB_151 dX11_readTown_52) rfl rfl) <|
  xA1 (ok_putI (xdd xB_151 dX11_readTown_53) rfl (lk_n q1543) rfl xfd_133 (Or.inl rfl)) <|
  xA0 (ok_aload_n (xdd xB_151 dX11_readTown_56) rfl rfl) <|
  xA1 (ok_getA (xdd xB_151 dX11_readTown_57) rfl (lk_f q1407) rfl) <|
  xA0 (ok_iload_n (xdd xB_151 dX11_readTown_60) rfl rfl) <|
  xA1 (ok_putI (xdd xB_151 dX11_readTown_61) rfl (lk_n q1544) rfl xfd_134 (Or.inl rfl)) <|
  xAe
theorem xe_151_2 {s0 : State} {A0 : Array Value} {D : va_G} {ta : Nat → ClassId} {l : Launch} : XAll s0 A0 D ta l 151 xk_151_2 :=
  xAR (ok_vreturn (xdd xB_151 dX11_readTown_64) rfl) <|
  xAe
theorem xe_151 {s0 : State} {A0 : Array Value} {D : va_G} {ta : Nat → ClassId} {l : Launch} : XAllC s0 A0 D ta l 151 xk_151 := ⟨xe_151_0, xe_151_1, xe_151_2, trivial⟩
theorem xe_152_0 {s0 : State} {A0 : Array Value} {D : va_G} {ta : Nat → ClassId} {l : Launch} : XAll s0 A0 D ta l 152 xk_152_0 :=
  xA0 (ok_aload_n (xdd xB_152 dX11_flaw_0) rfl rfl) <|
  xA1 (ok_getI (xdd xB_152 dX11_flaw_1) rfl (lk_f q1412) (by decide)) <|
  xA0 (ok_iconst (xdd xB_152 dX11_flaw_4) rfl rfl (xrg rfl)) <|
  xAB (ok_icmp_ne (xdd xB_152 dX11_flaw_5) rfl rfl) <|
  xAR (ok_vreturn (xdd xB_152 dX11_flaw_8) rfl) <|
  xA0 (ok_aload_n (xdd xB_152 dX11_flaw_9) rfl rfl) <|
  xA0 (ok_iload_n (xdd xB_152 dX11_flaw_10) rfl rfl) <|
  xA1 (ok_putI (xdd xB_152 dX11_flaw_11) rfl (lk_f q1415) rfl xfd_78 (Or.inl rfl)) <|
  xA0 (ok_aload_n (xdd xB_152 dX11_flaw_14) rfl rfl) <|
  xA0 (ok_aload_n (xdd xB_152 dX11_flaw_15) rfl rfl) <|
  xA1 (ok_getI (xdd xB_152 dX11_flaw_16) rfl (lk_f q1413) (by decide)) <|
  xA1 (ok_putI (xdd xB_152 dX11_flaw_19) rfl (lk_f q1416) rfl xfd_79 (Or.inl rfl)) <|
  xA0 (ok_aload_n (xdd xB_152 dX11_flaw_22) rfl rfl) <|
  xA0 (ok_iconst (xdd xB_152 dX11_flaw_23) rfl rfl (xrg rfl)) <|
  xA1 (ok_putI (xdd xB_152 dX11_flaw_24) rfl (lk_f q1412) rfl xfd_75 (Or.inl rfl)) <|
  xAR (ok_vreturn (xdd xB_152 dX11_flaw_27) rfl) <|
  xAe
theorem xe_152 {s0 : State} {A0 : Array Value} {D : va_G} {ta : Nat → ClassId} {l : Launch} : XAllC s0 A0 D ta l 152 xk_152 := ⟨xe_152_0, trivial⟩
theorem xe_153_0 {s0 : State} {A0 : Array Value} {D : va_G} {ta : Nat → ClassId} {l : Launch} : XAll s0 A0 D ta l 153 xk_153_0 :=
  xA0 (ok_aload_n (xdd xB_153 dX11_readPart_0) rfl rfl) <|
  xA0 (ok_aload_n (xdd xB_153 dX11_readPart_1) rfl rfl) <|
  xAK rfl (xC1 (ok_callV (xdd xB_153 dX11_readPart_2) rfl xq_9 rfl xp_154_1 q1719 q1721 qs58 q124 q1722) xC0) <|
  xA0 (ok_aload_n (xdd xB_153 dX11_readPart_5) rfl rfl) <|
  xA0 (ok_iload_n (xdd xB_153 dX11_readPart_6) rfl rfl) <|
  xA0 (ok_iload_n (xdd xB_153 dX11_readPart_7) rfl rfl) <|
  xAK rfl (xC1 (ok_callV (xdd xB_153 dX11_readPart_8) rfl xq_9 rfl xp_155_2 q1723 q1725 qs59 q124 q1726) xC0) <|
  xAR (ok_ireturn (xdd xB_153 dX11_readPart_11) rfl) <|
  xAe
theorem xe_153 {s0 : State} {A0 : Array Value} {D : va_G} {ta : Nat → ClassId} {l : Launch} : XAllC s0 A0 D ta l 153 xk_153 := ⟨xe_153_0, trivial⟩
theorem xe_154_0 {s0 : State} {A0 : Array Value} {D : va_G} {ta : Nat → ClassId} {l : Launch} : XAll s0 A0 D ta l 154 xk_154_0 :=
  xA0 (ok_aload_n (xdd xB_154 dX11_needs_0) rfl rfl) <|
  xA0 (ok_aload_n (xdd xB_154 dX11_needs_1) rfl rfl) <|
  xAK rfl (xC1 (ok_callV (xdd xB_154 dX11_needs_2) rfl xq_9 rfl xp_149_1 q1671 q1673 qs54 q124 q1674) xC0) <|
  xAB (ok_if_ne (xdd xB_154 dX11_needs_5) rfl rfl) <|
  xA0 (ok_aload_n (xdd xB_154 dX11_needs_8) rfl rfl) <|
  xA0 (ok_iconst (xdd xB_154 dX11_needs_9) rfl rfl (xrg rfl)) <|
  xAK rfl (xC1 (ok_callV (xdd xB_154 dX11_needs_10) rfl xq_9 rfl xp_152_1 q1710 q1712 qs56 q124 q1713) xC0) <|
  xA0 (ok_aload_n (xdd xB_154 dX11_needs_13) rfl rfl) <|
  xAK rfl (xC1 (ok_callV (xdd xB_154 dX11_needs_14) rfl xq_9 rfl xp_143_0 q1647 q1649 qs50 q124 q1650) xC0) <|
  xAR (ok_vreturn (xdd xB_154 dX11_needs_17) rfl) <|
  xAe
theorem xe_154 {s0 : State} {A0 : Array Value} {D : va_G} {ta : Nat → ClassId} {l : Launch} : XAllC s0 A0 D ta l 154 xk_154 := ⟨xe_154_0, trivial⟩
theorem xe_155_0 {s0 : State} {A0 : Array Value} {D : va_G} {ta : Nat → ClassId} {l : Launch} : XAll s0 A0 D ta l 155 xk_155_0 :=
  xA0 (ok_aload_n (xdd xB_155 dX11_readWhole_0) rfl rfl) <|
  xA1 (ok_getI (xdd xB_155 dX11_readWhole_1) rfl (lk_f q1412) (by decide)) <|
  xA0 (ok_iconst (xdd xB_155 dX11_readWhole_4) rfl rfl (xrg rfl)) <|
  xAB (ok_icmp_eq (xdd xB_155 dX11_readWhole_5) rfl rfl) <|
  xA0 (ok_aload_n (xdd xB_155 dX11_readWhole_8) rfl rfl) <|
  xA0 (ok_iconst (xdd xB_155 dX11_readWhole_9) rfl rfl (xrg rfl)) <|
  xAK rfl (xC1 (ok_callV (xdd xB_155 dX11_readWhole_10) rfl xq_9 rfl xp_152_1 q1710 q1712 qs56 q124 q1713) xC0) <|
  xA0 (ok_goto (xdd xB_155 dX11_readWhole_13) rfl) <|
  xA0 (ok_aload_n (xdd xB_155 dX11_readWhole_16) rfl rfl) <|
  xA1 (ok_getI (xdd xB_155 dX11_readWhole_17) rfl (lk_f q1414) (by decide)) <|
  xA0 (ok_iload_n (xdd xB_155 dX11_readWhole_20) rfl rfl) <|
  xA0 (ok_iload_n (xdd xB_155 dX11_readWhole_21) rfl rfl) <|
  xAK rfl (xC1 (ok_callS (xdd xB_155 dX11_readWhole_22) rfl xp_156_3 q1727 q1728 q124 q1729) xC0) <|
  xAB (ok_if_ne (xdd xB_155 dX11_readWhole_25) rfl rfl) <|
  xA0 (ok_aload_n (xdd xB_155 dX11_readWhole_28) rfl rfl) <|
  xA0 (ok_iconst (xdd xB_155 dX11_readWhole_29) rfl rfl (xrg rfl)) <|
  xAK rfl (xC1 (ok_callV (xdd xB_155 dX11_readWhole_30) rfl xq_9 rfl xp_152_1 q1710 q1712 qs56 q124 q1713) xC0) <|
  xAe
theorem xe_155_1 {s0 : State} {A0 : Array Value} {D : va_G} {ta : Nat → ClassId} {l : Launch} : XAll s0 A0 D ta l 155 xk_155_1 :=
  xA0 (ok_aload_n (xdd xB_155 dX11_readWhole_33) rfl rfl) <|
  xA1 (ok_getI (xdd xB_155 dX11_readWhole_34) rfl (lk_f q1412) (by decide)) <|
  xA0 (ok_iconst (xdd xB_155 dX11_readWhole_37) rfl rfl (xrg rfl)) <|
  xAB (ok_icmp_ne (xdd xB_155 dX11_readWhole_38) rfl rfl) <|
  xA0 (ok_iload_n (xdd xB_155 dX11_readWhole_41) rfl rfl) <|
  xA0 (ok_goto (xdd xB_155 dX11_readWhole_42) rfl) <|
  xA0 (ok_aload_n (xdd xB_155 dX11_readWhole_45) rfl rfl) <|
  xA1 (ok_getI (xdd xB_155 dX11_readWhole_46) rfl (lk_f q1414) (by decide)) <|
  xA0 (ok_istore_n (xdd xB_155 dX11_readWhole_49) rfl rfl) <|
  xA0 (ok_aload_n (xdd xB_155 dX11_readWhole_50) rfl rfl) <|
  xAK rfl (xC1 (ok_callV (xdd xB_155 dX11_readWhole_51) rfl xq_9 rfl xp_143_0 q1647 q1649 qs50 q124 q1650) xC0) <|
  xA0 (ok_iload_n (xdd xB_155 dX11_readWhole_54) rfl rfl) <|
  xAR (ok_ireturn (xdd xB_155 dX11_readWhole_55) rfl) <|
  xAe
theorem xe_155 {s0 : State} {A0 : Array Value} {D : va_G} {ta : Nat → ClassId} {l : Launch} : XAllC s0 A0 D ta l 155 xk_155 := ⟨xe_155_0, xe_155_1, trivial⟩
theorem xe_156_0 {s0 : State} {A0 : Array Value} {D : va_G} {ta : Nat → ClassId} {l : Launch} : XAll s0 A0 D ta l 156 xk_156_0 :=
  xA0 (ok_iload_n (xdd xB_156 dX11_in_0) rfl rfl) <|
  xA0 (ok_iload_n (xdd xB_156 dX11_in_1) rfl rfl) <|
  xAB (ok_icmp_lt (xdd xB_156 dX11_in_2) rfl rfl) <|
  xA0 (ok_iload_n (xdd xB_156 dX11_in_5) rfl rfl) <|
  xA0 (ok_iload_n (xdd xB_156 dX11_in_6) rfl rfl) <|
  xAB (ok_icmp_gt (xdd xB_156 dX11_in_7) rfl rfl) <|
  xA0 (ok_iconst (xdd xB_156 dX11_in_10) rfl rfl (xrg rfl)) <|
  xA0 (ok_goto (xdd xB_156 dX11_in_11) rfl) <|
  xA0 (ok_iconst (xdd xB_156 dX11_in_14) rfl rfl (xrg rfl)) <|
  xAR (ok_zreturn (xdd xB_156 dX11_in_15) rfl) <|
  xAe
theorem xe_156 {s0 : State} {A0 : Array Value} {D : va_G} {ta : Nat → ClassId} {l : Launch} : XAllC s0 A0 D ta l 156 xk_156 := ⟨xe_156_0, trivial⟩
theorem xe_157_0 {s0 : State} {A0 : Array Value} {D : va_G} {ta : Nat → ClassId} {l : Launch} : XAll s0 A0 D ta l 157 xk_157_0 :=
  xA0 (ok_aload_n (xdd xB_157 dX11_readHouseLine_0) rfl rfl) <|
  xA0 (ok_aload_n (xdd xB_157 dX11_readHouseLine_1) rfl rfl) <|
  xA1 (ok_getA (xdd xB_157 dX11_readHouseLine_2) rfl (lk_f q1407) rfl) <|
  xA1 (ok_getI (xdd xB_157 dX11_readHouseLine_5) rfl (lk_n q1546) (by decide)) <|
  xA0 (ok_bipush (xdd xB_157 dX11_readHouseLine_8) rfl rfl (xrg rfl)) <|
  xAK rfl (xC1 (ok_callV (xdd xB_157 dX11_readHouseLine_10) rfl xq_9 rfl xp_158_2 q1736 q1738 qs61 q124 q1739) xC0) <|
  xA0 (ok_aload_n (xdd xB_157 dX11_readHouseLine_13) rfl rfl) <|
  xAK rfl (xC1 (ok_callV (xdd xB_157 dX11_readHouseLine_14) rfl xq_9 rfl xp_159_0 q1740 q1742 qs62 q124 q1743) xC0) <|
  xA0 (ok_lstore_n (xdd xB_157 dX11_readHouseLine_17) rfl rfl) <|
  xA0 (ok_aload_n (xdd xB_157 dX11_readHouseLine_18) rfl rfl) <|
  xA0 (ok_ldcS (xdd xB_157 dX11_readHouseLine_19) rfl rfl) <|
  xA0 (ok_iconst (xdd xB_157 dX11_readHouseLine_21) rfl rfl (xrg rfl)) <|
  xA0 (ok_bipush (xdd xB_157 dX11_readHouseLine_22) rfl rfl (xrg rfl)) <|
  xAK rfl (xC1 (ok_callV (xdd xB_157 dX11_readHouseLine_24) rfl xq_9 rfl xp_153_3 q1715 q1717 qs57 q124 q1718) xC0) <|
  xA0 (ok_istore_n (xdd xB_157 dX11_readHouseLine_27) rfl rfl) <|
  xA0 (ok_aload_n (xdd xB_157 dX11_readHouseLine_28) rfl rfl) <|
  xA0 (ok_ldcS (xdd xB_157 dX11_readHouseLine_29) rfl rfl) <|
  xA0 (ok_iconst (xdd xB_157 dX11_readHouseLine_31) rfl rfl (xrg rfl)) <|
  xAe
theorem xe_157_1 {s0 : State} {A0 : Array Value} {D : va_G} {ta : Nat → ClassId} {l : Launch} : XAll s0 A0 D ta l 157 xk_157_1 :=
  xA0 (ok_bipush (xdd xB_157 dX11_readHouseLine_32) rfl rfl (xrg rfl)) <|
  xAK rfl (xC1 (ok_callV (xdd xB_157 dX11_readHouseLine_34) rfl xq_9 rfl xp_153_3 q1715 q1717 qs57 q124 q1718) xC0) <|
  xA0 (ok_istore (xdd xB_157 dX11_readHouseLine_37) rfl) <|
  xA0 (ok_aload_n (xdd xB_157 dX11_readHouseLine_39) rfl rfl) <|
  xA0 (ok_ldcwS (xdd xB_157 dX11_readHouseLine_40) rfl rfl) <|
  xA0 (ok_iconst (xdd xB_157 dX11_readHouseLine_43) rfl rfl (xrg rfl)) <|
  xA0 (ok_sipush (xdd xB_157 dX11_readHouseLine_44) rfl rfl (xrg rfl)) <|
  xAK rfl (xC1 (ok_callV (xdd xB_157 dX11_readHouseLine_47) rfl xq_9 rfl xp_153_3 q1715 q1717 qs57 q124 q1718) xC0) <|
  xA0 (ok_istore (xdd xB_157 dX11_readHouseLine_50) rfl) <|
  xA0 (ok_aload_n (xdd xB_157 dX11_readHouseLine_52) rfl rfl) <|
  xA0 (ok_ldcwS (xdd xB_157 dX11_readHouseLine_53) rfl rfl) <|
  xAK rfl (xC1 (ok_callV (xdd xB_157 dX11_readHouseLine_56) rfl xq_9 rfl xp_154_1 q1719 q1721 qs58 q124 q1722) xC0) <|
  xA0 (ok_aload_n (xdd xB_157 dX11_readHouseLine_59) rfl rfl) <|
  xAK rfl (xC1 (ok_callV (xdd xB_157 dX11_readHouseLine_60) rfl xq_9 rfl xp_161_0 q1762 q1764 qs64 q124 q1765) xC0) <|
  xA0 (ok_lstore (xdd xB_157 dX11_readHouseLine_63) rfl) <|
  xAe
theorem xe_157_2 {s0 : State} {A0 : Array Value} {D : va_G} {ta : Nat → ClassId} {l : Launch} : XAll s0 A0 D ta l 157 xk_157_2 :=
  xA0 (ok_aload_n (xdd xB_157 dX11_readHouseLine_65) rfl rfl) <|
  xA1 (ok_getI (xdd xB_157 dX11_readHouseLine_66) rfl (lk_f q1412) (by decide)) <|
  xA0 (ok_iconst (xdd xB_157 dX11_readHouseLine_69) rfl rfl (xrg rfl)) <|
  xAB (ok_icmp_ne (xdd xB_157 dX11_readHouseLine_70) rfl rfl) <|
  xAR (ok_vreturn (xdd xB_157 dX11_readHouseLine_73) rfl) <|
  xA0 (ok_aload_n (xdd xB_157 dX11_readHouseLine_74) rfl rfl) <|
  xA1 (ok_getA (xdd xB_157 dX11_readHouseLine_75) rfl (lk_f q1407) rfl) <|
  xA1 (ok_getI (xdd xB_157 dX11_readHouseLine_78) rfl (lk_n q1546) (by decide)) <|
  xA0 (ok_istore (xdd xB_157 dX11_readHouseLine_81) rfl) <|
  xA0 (ok_aload_n (xdd xB_157 dX11_readHouseLine_83) rfl rfl) <|
  xA0 (ok_lload_n (xdd xB_157 dX11_readHouseLine_84) rfl rfl) <|
  xA0 (ok_iconst (xdd xB_157 dX11_readHouseLine_85) rfl rfl (xrg rfl)) <|
  xA0 (ok_iload (xdd xB_157 dX11_readHouseLine_86) rfl) <|
  xAK rfl (xC1 (ok_callV (xdd xB_157 dX11_readHouseLine_88) rfl xq_9 rfl xp_162_3 q1766 q1768 qs65 q124 q1769) xC0) <|
  xA0 (ok_aload_n (xdd xB_157 dX11_readHouseLine_91) rfl rfl) <|
  xA1 (ok_getA (xdd xB_157 dX11_readHouseLine_92) rfl (lk_f q1407) rfl) <|
  xA1 (ok_getA (xdd xB_157 dX11_readHouseLine_95) rfl (lk_n q1558) rfl) <|
  xAe
theorem xe_157_3 {s0 : State} {A0 : Array Value} {D : va_G} {ta : Nat → ClassId} {l : Launch} : XAll s0 A0 D ta l 157 xk_157_3 :=
  xA0 (ok_iload (xdd xB_157 dX11_readHouseLine_98) rfl) <|
  xA0 (ok_iload_n (xdd xB_157 dX11_readHouseLine_100) rfl rfl) <|
  xA1 (ok_iastore (xdd xB_157 dX11_readHouseLine_101) rfl) <|
  xA0 (ok_aload_n (xdd xB_157 dX11_readHouseLine_102) rfl rfl) <|
  xA1 (ok_getA (xdd xB_157 dX11_readHouseLine_103) rfl (lk_f q1407) rfl) <|
  xA1 (ok_getA (xdd xB_157 dX11_readHouseLine_106) rfl (lk_n q1560) rfl) <|
  xA0 (ok_iload (xdd xB_157 dX11_readHouseLine_109) rfl) <|
  xA0 (ok_iload (xdd xB_157 dX11_readHouseLine_111) rfl) <|
  xA1 (ok_iastore (xdd xB_157 dX11_readHouseLine_113) rfl) <|
  xA0 (ok_aload_n (xdd xB_157 dX11_readHouseLine_114) rfl rfl) <|
  xA1 (ok_getA (xdd xB_157 dX11_readHouseLine_115) rfl (lk_f q1407) rfl) <|
  xA1 (ok_getA (xdd xB_157 dX11_readHouseLine_118) rfl (lk_n q1562) rfl) <|
  xA0 (ok_iload (xdd xB_157 dX11_readHouseLine_121) rfl) <|
  xA0 (ok_iload (xdd xB_157 dX11_readHouseLine_123) rfl) <|
  xA1 (ok_iastore (xdd xB_157 dX11_readHouseLine_125) rfl) <|
  xA0 (ok_aload_n (xdd xB_157 dX11_readHouseLine_126) rfl rfl) <|
  xA1 (ok_getA (xdd xB_157 dX11_readHouseLine_127) rfl (lk_f q1407) rfl) <|
  xAe
theorem xe_157_4 {s0 : State} {A0 : Array Value} {D : va_G} {ta : Nat → ClassId} {l : Launch} : XAll s0 A0 D ta l 157 xk_157_4 :=
  xA1 (ok_getA (xdd xB_157 dX11_readHouseLine_130) rfl (lk_n q1570) rfl) <|
  xA0 (ok_iload (xdd xB_157 dX11_readHouseLine_133) rfl) <|
  xA0 (ok_lload (xdd xB_157 dX11_readHouseLine_135) rfl) <|
  xA1 (ok_lastore (xdd xB_157 dX11_readHouseLine_137) rfl) <|
  xA0 (ok_aload_n (xdd xB_157 dX11_readHouseLine_138) rfl rfl) <|
  xA1 (ok_getA (xdd xB_157 dX11_readHouseLine_139) rfl (lk_f q1407) rfl) <|
  xA1 (ok_getA (xdd xB_157 dX11_readHouseLine_142) rfl (lk_n q1564) rfl) <|
  xA0 (ok_iload (xdd xB_157 dX11_readHouseLine_145) rfl) <|
  xA0 (ok_bipush (xdd xB_157 dX11_readHouseLine_147) rfl rfl (xrg rfl)) <|
  xA1 (ok_iastore (xdd xB_157 dX11_readHouseLine_149) rfl) <|
  xA0 (ok_aload_n (xdd xB_157 dX11_readHouseLine_150) rfl rfl) <|
  xA1 (ok_getA (xdd xB_157 dX11_readHouseLine_151) rfl (lk_f q1407) rfl) <|
  xA1 (ok_getA (xdd xB_157 dX11_readHouseLine_154) rfl (lk_n q1566) rfl) <|
  xA0 (ok_iload (xdd xB_157 dX11_readHouseLine_157) rfl) <|
  xA0 (ok_iconst (xdd xB_157 dX11_readHouseLine_159) rfl rfl (xrg rfl)) <|
  xAe
theorem xe_157_5 {s0 : State} {A0 : Array Value} {D : va_G} {ta : Nat → ClassId} {l : Launch} : XAll s0 A0 D ta l 157 xk_157_5 :=
  xA1 (ok_iastore (xdd xB_157 dX11_readHouseLine_160) rfl) <|
  xA0 (ok_aload_n (xdd xB_157 dX11_readHouseLine_161) rfl rfl) <|
  xA1 (ok_getA (xdd xB_157 dX11_readHouseLine_162) rfl (lk_f q1407) rfl) <|
  xA0 (ok_dup (xdd xB_157 dX11_readHouseLine_165) rfl) <|
  xA1 (ok_getI (xdd xB_157 dX11_readHouseLine_166) rfl (lk_n q1546) (by decide)) <|
  xA0 (ok_iconst (xdd xB_157 dX11_readHouseLine_169) rfl rfl (xrg rfl)) <|
  xA1 (ok_iadd (xdd xB_157 dX11_readHouseLine_170) rfl) <|
  xA1 (ok_putI (xdd xB_157 dX11_readHouseLine_171) rfl (lk_n q1546) rfl xfd_135 (Or.inl rfl)) <|
  xAR (ok_vreturn (xdd xB_157 dX11_readHouseLine_174) rfl) <|
  xAe
theorem xe_157 {s0 : State} {A0 : Array Value} {D : va_G} {ta : Nat → ClassId} {l : Launch} : XAllC s0 A0 D ta l 157 xk_157 := ⟨xe_157_0, xe_157_1, xe_157_2, xe_157_3, xe_157_4, xe_157_5, trivial⟩
theorem xe_158_0 {s0 : State} {A0 : Array Value} {D : va_G} {ta : Nat → ClassId} {l : Launch} : XAll s0 A0 D ta l 158 xk_158_0 :=
  xA0 (ok_iload_n (xdd xB_158 dX11_lineBegins_0) rfl rfl) <|
  xA0 (ok_iload_n (xdd xB_158 dX11_lineBegins_1) rfl rfl) <|
  xAB (ok_icmp_ne (xdd xB_158 dX11_lineBegins_2) rfl rfl) <|
  xA0 (ok_aload_n (xdd xB_158 dX11_lineBegins_5) rfl rfl) <|
  xA0 (ok_iconst (xdd xB_158 dX11_lineBegins_6) rfl rfl (xrg rfl)) <|
  xAK rfl (xC1 (ok_callV (xdd xB_158 dX11_lineBegins_7) rfl xq_9 rfl xp_152_1 q1710 q1712 qs56 q124 q1713) xC0) <|
  xA0 (ok_aload_n (xdd xB_158 dX11_lineBegins_10) rfl rfl) <|
  xA1 (ok_getA (xdd xB_158 dX11_lineBegins_11) rfl (lk_f q1407) rfl) <|
  xA1 (ok_getI (xdd xB_158 dX11_lineBegins_14) rfl (lk_n q1543) (by decide)) <|
  xAB (ok_if_ne (xdd xB_158 dX11_lineBegins_17) rfl rfl) <|
  xA0 (ok_aload_n (xdd xB_158 dX11_lineBegins_20) rfl rfl) <|
  xA0 (ok_bipush (xdd xB_158 dX11_lineBegins_21) rfl rfl (xrg rfl)) <|
  xAK rfl (xC1 (ok_callV (xdd xB_158 dX11_lineBegins_23) rfl xq_9 rfl xp_152_1 q1710 q1712 qs56 q124 q1713) xC0) <|
  xA0 (ok_aload_n (xdd xB_158 dX11_lineBegins_26) rfl rfl) <|
  xAK rfl (xC1 (ok_callV (xdd xB_158 dX11_lineBegins_27) rfl xq_9 rfl xp_143_0 q1647 q1649 qs50 q124 q1650) xC0) <|
  xAR (ok_vreturn (xdd xB_158 dX11_lineBegins_30) rfl) <|
  xAe
theorem xe_158 {s0 : State} {A0 : Array Value} {D : va_G} {ta : Nat → ClassId} {l : Launch} : XAllC s0 A0 D ta l 158 xk_158 := ⟨xe_158_0, trivial⟩
theorem xe_159_0 {s0 : State} {A0 : Array Value} {D : va_G} {ta : Nat → ClassId} {l : Launch} : XAll s0 A0 D ta l 159 xk_159_0 :=
  xA0 (ok_aload_n (xdd xB_159 dX11_readFresh_0) rfl rfl) <|
  xAK rfl (xC1 (ok_callV (xdd xB_159 dX11_readFresh_1) rfl xq_9 rfl xp_160_0 q1744 q1746 qs63 q124 q1747) xC0) <|
  xAB (ok_if_ne (xdd xB_159 dX11_readFresh_4) rfl rfl) <|
  xA0 (ok_aload_n (xdd xB_159 dX11_readFresh_7) rfl rfl) <|
  xA0 (ok_iconst (xdd xB_159 dX11_readFresh_8) rfl rfl (xrg rfl)) <|
  xAK rfl (xC1 (ok_callV (xdd xB_159 dX11_readFresh_9) rfl xq_9 rfl xp_152_1 q1710 q1712 qs56 q124 q1713) xC0) <|
  xA0 (ok_aload_n (xdd xB_159 dX11_readFresh_12) rfl rfl) <|
  xA1 (ok_getA (xdd xB_159 dX11_readFresh_13) rfl (lk_f q1407) rfl) <|
  xA0 (ok_aload_n (xdd xB_159 dX11_readFresh_16) rfl rfl) <|
  xA1 (ok_getJ (xdd xB_159 dX11_readFresh_17) rfl (lk_f q1417) rfl) <|
  xAK rfl (xC1 (ok_callV (xdd xB_159 dX11_readFresh_20) rfl xq_15 rfl xp_292_1 q1754 q1755 q1756 q137 q1757) xC0) <|
  xA0 (ok_iconst (xdd xB_159 dX11_readFresh_23) rfl rfl (xrg rfl)) <|
  xAB (ok_icmp_eq (xdd xB_159 dX11_readFresh_24) rfl rfl) <|
  xA0 (ok_aload_n (xdd xB_159 dX11_readFresh_27) rfl rfl) <|
  xA0 (ok_iconst (xdd xB_159 dX11_readFresh_28) rfl rfl (xrg rfl)) <|
  xAK rfl (xC1 (ok_callV (xdd xB_159 dX11_readFresh_29) rfl xq_9 rfl xp_152_1 q1710 q1712 qs56 q124 q1713) xC0) <|
  xAe
theorem xe_159_1 {s0 : State} {A0 : Array Value} {D : va_G} {ta : Nat → ClassId} {l : Launch} : XAll s0 A0 D ta l 159 xk_159_1 :=
  xA0 (ok_aload_n (xdd xB_159 dX11_readFresh_32) rfl rfl) <|
  xA1 (ok_getJ (xdd xB_159 dX11_readFresh_33) rfl (lk_f q1417) rfl) <|
  xA0 (ok_lstore_n (xdd xB_159 dX11_readFresh_36) rfl rfl) <|
  xA0 (ok_aload_n (xdd xB_159 dX11_readFresh_37) rfl rfl) <|
  xAK rfl (xC1 (ok_callV (xdd xB_159 dX11_readFresh_38) rfl xq_9 rfl xp_143_0 q1647 q1649 qs50 q124 q1650) xC0) <|
  xA0 (ok_lload_n (xdd xB_159 dX11_readFresh_41) rfl rfl) <|
  xAR (ok_lreturn (xdd xB_159 dX11_readFresh_42) rfl) <|
  xAe
theorem xe_159 {s0 : State} {A0 : Array Value} {D : va_G} {ta : Nat → ClassId} {l : Launch} : XAllC s0 A0 D ta l 159 xk_159 := ⟨xe_159_0, xe_159_1, trivial⟩
theorem xe_160_0 {s0 : State} {A0 : Array Value} {D : va_G} {ta : Nat → ClassId} {l : Launch} : XAll s0 A0 D ta l 160 xk_160_0 :=
  xA0 (ok_aload_n (xdd xB_160 dX11_isName_0) rfl rfl) <|
  xA1 (ok_getI (xdd xB_160 dX11_isName_1) rfl (lk_f q1412) (by decide)) <|
  xA0 (ok_iconst (xdd xB_160 dX11_isName_4) rfl rfl (xrg rfl)) <|
  xAB (ok_icmp_ne (xdd xB_160 dX11_isName_5) rfl rfl) <|
  xA0 (ok_aload_n (xdd xB_160 dX11_isName_8) rfl rfl) <|
  xA0 (ok_ldcS (xdd xB_160 dX11_isName_9) rfl rfl) <|
  xAK rfl (xC1 (ok_callV (xdd xB_160 dX11_isName_11) rfl xq_9 rfl xp_149_1 q1671 q1673 qs54 q124 q1674) xC0) <|
  xAB (ok_if_ne (xdd xB_160 dX11_isName_14) rfl rfl) <|
  xA0 (ok_aload_n (xdd xB_160 dX11_isName_17) rfl rfl) <|
  xA0 (ok_ldcS (xdd xB_160 dX11_isName_18) rfl rfl) <|
  xAK rfl (xC1 (ok_callV (xdd xB_160 dX11_isName_20) rfl xq_9 rfl xp_149_1 q1671 q1673 qs54 q124 q1674) xC0) <|
  xAB (ok_if_ne (xdd xB_160 dX11_isName_23) rfl rfl) <|
  xA0 (ok_aload_n (xdd xB_160 dX11_isName_26) rfl rfl) <|
  xA0 (ok_ldcS (xdd xB_160 dX11_isName_27) rfl rfl) <|
  xAK rfl (xC1 (ok_callV (xdd xB_160 dX11_isName_29) rfl xq_9 rfl xp_149_1 q1671 q1673 qs54 q124 q1674) xC0) <|
  xAe
theorem xe_160_1 {s0 : State} {A0 : Array Value} {D : va_G} {ta : Nat → ClassId} {l : Launch} : XAll s0 A0 D ta l 160 xk_160_1 :=
  xAB (ok_if_ne (xdd xB_160 dX11_isName_32) rfl rfl) <|
  xA0 (ok_aload_n (xdd xB_160 dX11_isName_35) rfl rfl) <|
  xA0 (ok_ldcS (xdd xB_160 dX11_isName_36) rfl rfl) <|
  xAK rfl (xC1 (ok_callV (xdd xB_160 dX11_isName_38) rfl xq_9 rfl xp_149_1 q1671 q1673 qs54 q124 q1674) xC0) <|
  xAB (ok_if_eq (xdd xB_160 dX11_isName_41) rfl rfl) <|
  xA0 (ok_iconst (xdd xB_160 dX11_isName_44) rfl rfl (xrg rfl)) <|
  xAR (ok_zreturn (xdd xB_160 dX11_isName_45) rfl) <|
  xA0 (ok_aload_n (xdd xB_160 dX11_isName_46) rfl rfl) <|
  xA0 (ok_ldcS (xdd xB_160 dX11_isName_47) rfl rfl) <|
  xAK rfl (xC1 (ok_callV (xdd xB_160 dX11_isName_49) rfl xq_9 rfl xp_149_1 q1671 q1673 qs54 q124 q1674) xC0) <|
  xAB (ok_if_ne (xdd xB_160 dX11_isName_52) rfl rfl) <|
  xA0 (ok_aload_n (xdd xB_160 dX11_isName_55) rfl rfl) <|
  xA0 (ok_ldcS (xdd xB_160 dX11_isName_56) rfl rfl) <|
  xAK rfl (xC1 (ok_callV (xdd xB_160 dX11_isName_58) rfl xq_9 rfl xp_149_1 q1671 q1673 qs54 q124 q1674) xC0) <|
  xAB (ok_if_ne (xdd xB_160 dX11_isName_61) rfl rfl) <|
  xAe
theorem xe_160_2 {s0 : State} {A0 : Array Value} {D : va_G} {ta : Nat → ClassId} {l : Launch} : XAll s0 A0 D ta l 160 xk_160_2 :=
  xA0 (ok_aload_n (xdd xB_160 dX11_isName_64) rfl rfl) <|
  xA0 (ok_ldcS (xdd xB_160 dX11_isName_65) rfl rfl) <|
  xAK rfl (xC1 (ok_callV (xdd xB_160 dX11_isName_67) rfl xq_9 rfl xp_149_1 q1671 q1673 qs54 q124 q1674) xC0) <|
  xAB (ok_if_ne (xdd xB_160 dX11_isName_70) rfl rfl) <|
  xA0 (ok_aload_n (xdd xB_160 dX11_isName_73) rfl rfl) <|
  xA0 (ok_ldcS (xdd xB_160 dX11_isName_74) rfl rfl) <|
  xAK rfl (xC1 (ok_callV (xdd xB_160 dX11_isName_76) rfl xq_9 rfl xp_149_1 q1671 q1673 qs54 q124 q1674) xC0) <|
  xAB (ok_if_ne (xdd xB_160 dX11_isName_79) rfl rfl) <|
  xA0 (ok_iconst (xdd xB_160 dX11_isName_82) rfl rfl (xrg rfl)) <|
  xA0 (ok_goto (xdd xB_160 dX11_isName_83) rfl) <|
  xA0 (ok_iconst (xdd xB_160 dX11_isName_86) rfl rfl (xrg rfl)) <|
  xAR (ok_zreturn (xdd xB_160 dX11_isName_87) rfl) <|
  xAe
theorem xe_160 {s0 : State} {A0 : Array Value} {D : va_G} {ta : Nat → ClassId} {l : Launch} : XAllC s0 A0 D ta l 160 xk_160 := ⟨xe_160_0, xe_160_1, xe_160_2, trivial⟩
theorem xe_161_0 {s0 : State} {A0 : Array Value} {D : va_G} {ta : Nat → ClassId} {l : Launch} : XAll s0 A0 D ta l 161 xk_161_0 :=
  xA0 (ok_aload_n (xdd xB_161 dX11_readWord_0) rfl rfl) <|
  xA1 (ok_getI (xdd xB_161 dX11_readWord_1) rfl (lk_f q1412) (by decide)) <|
  xA0 (ok_iconst (xdd xB_161 dX11_readWord_4) rfl rfl (xrg rfl)) <|
  xAB (ok_icmp_eq (xdd xB_161 dX11_readWord_5) rfl rfl) <|
  xA0 (ok_aload_n (xdd xB_161 dX11_readWord_8) rfl rfl) <|
  xA0 (ok_iconst (xdd xB_161 dX11_readWord_9) rfl rfl (xrg rfl)) <|
  xAK rfl (xC1 (ok_callV (xdd xB_161 dX11_readWord_10) rfl xq_9 rfl xp_152_1 q1710 q1712 qs56 q124 q1713) xC0) <|
  xA0 (ok_aload_n (xdd xB_161 dX11_readWord_13) rfl rfl) <|
  xA1 (ok_getJ (xdd xB_161 dX11_readWord_14) rfl (lk_f q1417) rfl) <|
  xA0 (ok_lstore_n (xdd xB_161 dX11_readWord_17) rfl rfl) <|
  xA0 (ok_aload_n (xdd xB_161 dX11_readWord_18) rfl rfl) <|
  xAK rfl (xC1 (ok_callV (xdd xB_161 dX11_readWord_19) rfl xq_9 rfl xp_143_0 q1647 q1649 qs50 q124 q1650) xC0) <|
  xA0 (ok_lload_n (xdd xB_161 dX11_readWord_22) rfl rfl) <|
  xAR (ok_lreturn (xdd xB_161 dX11_readWord_23) rfl) <|
  xAe
theorem xe_161 {s0 : State} {A0 : Array Value} {D : va_G} {ta : Nat → ClassId} {l : Launch} : XAllC s0 A0 D ta l 161 xk_161 := ⟨xe_161_0, trivial⟩
theorem xe_162_0 {s0 : State} {A0 : Array Value} {D : va_G} {ta : Nat → ClassId} {l : Launch} : XAll s0 A0 D ta l 162 xk_162_0 :=
  xA0 (ok_aload_n (xdd xB_162 dX11_names_0) rfl rfl) <|
  xA1 (ok_getA (xdd xB_162 dX11_names_1) rfl (lk_f q1407) rfl) <|
  xA1 (ok_getA (xdd xB_162 dX11_names_4) rfl (lk_n q1586) rfl) <|
  xA0 (ok_aload_n (xdd xB_162 dX11_names_7) rfl rfl) <|
  xA1 (ok_getA (xdd xB_162 dX11_names_8) rfl (lk_f q1407) rfl) <|
  xA1 (ok_getI (xdd xB_162 dX11_names_11) rfl (lk_n q1556) (by decide)) <|
  xA0 (ok_lload_n (xdd xB_162 dX11_names_14) rfl rfl) <|
  xA1 (ok_lastore (xdd xB_162 dX11_names_15) rfl) <|
  xA0 (ok_aload_n (xdd xB_162 dX11_names_16) rfl rfl) <|
  xA1 (ok_getA (xdd xB_162 dX11_names_17) rfl (lk_f q1407) rfl) <|
  xA1 (ok_getA (xdd xB_162 dX11_names_20) rfl (lk_n q1588) rfl) <|
  xA0 (ok_aload_n (xdd xB_162 dX11_names_23) rfl rfl) <|
  xA1 (ok_getA (xdd xB_162 dX11_names_24) rfl (lk_f q1407) rfl) <|
  xA1 (ok_getI (xdd xB_162 dX11_names_27) rfl (lk_n q1556) (by decide)) <|
  xA0 (ok_iload_n (xdd xB_162 dX11_names_30) rfl rfl) <|
  xA1 (ok_iastore (xdd xB_162 dX11_names_31) rfl) <|
  xAe
theorem xe_162_1 {s0 : State} {A0 : Array Value} {D : va_G} {ta : Nat → ClassId} {l : Launch} : XAll s0 A0 D ta l 162 xk_162_1 :=
  xA0 (ok_aload_n (xdd xB_162 dX11_names_32) rfl rfl) <|
  xA1 (ok_getA (xdd xB_162 dX11_names_33) rfl (lk_f q1407) rfl) <|
  xA1 (ok_getA (xdd xB_162 dX11_names_36) rfl (lk_n q1590) rfl) <|
  xA0 (ok_aload_n (xdd xB_162 dX11_names_39) rfl rfl) <|
  xA1 (ok_getA (xdd xB_162 dX11_names_40) rfl (lk_f q1407) rfl) <|
  xA1 (ok_getI (xdd xB_162 dX11_names_43) rfl (lk_n q1556) (by decide)) <|
  xA0 (ok_iload (xdd xB_162 dX11_names_46) rfl) <|
  xA1 (ok_iastore (xdd xB_162 dX11_names_48) rfl) <|
  xA0 (ok_aload_n (xdd xB_162 dX11_names_49) rfl rfl) <|
  xA1 (ok_getA (xdd xB_162 dX11_names_50) rfl (lk_f q1407) rfl) <|
  xA0 (ok_dup (xdd xB_162 dX11_names_53) rfl) <|
  xA1 (ok_getI (xdd xB_162 dX11_names_54) rfl (lk_n q1556) (by decide)) <|
  xA0 (ok_iconst (xdd xB_162 dX11_names_57) rfl rfl (xrg rfl)) <|
  xA1 (ok_iadd (xdd xB_162 dX11_names_58) rfl) <|
  xA1 (ok_putI (xdd xB_162 dX11_names_59) rfl (lk_n q1556) rfl xfd_142 (Or.inl rfl)) <|
  xAR (ok_vreturn (xdd xB_162 dX11_names_62) rfl) <|
  xAe
theorem xe_162 {s0 : State} {A0 : Array Value} {D : va_G} {ta : Nat → ClassId} {l : Launch} : XAllC s0 A0 D ta l 162 xk_162 := ⟨xe_162_0, xe_162_1, trivial⟩
theorem xe_163_0 {s0 : State} {A0 : Array Value} {D : va_G} {ta : Nat → ClassId} {l : Launch} : XAll s0 A0 D ta l 163 xk_163_0 :=
  xA0 (ok_aload_n (xdd xB_163 dX11_readWrong_0) rfl rfl) <|
  xA0 (ok_iconst (xdd xB_163 dX11_readWrong_1) rfl rfl (xrg rfl)) <|
  xA0 (ok_iconst (xdd xB_163 dX11_readWrong_2) rfl rfl (xrg rfl)) <|
  xAK rfl (xC1 (ok_callV (xdd xB_163 dX11_readWrong_3) rfl xq_9 rfl xp_158_2 q1736 q1738 qs61 q124 q1739) xC0) <|
  xA0 (ok_aload_n (xdd xB_163 dX11_readWrong_6) rfl rfl) <|
  xAK rfl (xC1 (ok_callV (xdd xB_163 dX11_readWrong_7) rfl xq_9 rfl xp_164_0 q1774 q1776 qs67 q124 q1777) xC0) <|
  xA0 (ok_istore_n (xdd xB_163 dX11_readWrong_10) rfl rfl) <|
  xA0 (ok_aload_n (xdd xB_163 dX11_readWrong_11) rfl rfl) <|
  xA1 (ok_getI (xdd xB_163 dX11_readWrong_12) rfl (lk_f q1412) (by decide)) <|
  xA0 (ok_iconst (xdd xB_163 dX11_readWrong_15) rfl rfl (xrg rfl)) <|
  xAB (ok_icmp_eq (xdd xB_163 dX11_readWrong_16) rfl rfl) <|
  xA0 (ok_aload_n (xdd xB_163 dX11_readWrong_19) rfl rfl) <|
  xA1 (ok_getA (xdd xB_163 dX11_readWrong_20) rfl (lk_f q1407) rfl) <|
  xA1 (ok_getA (xdd xB_163 dX11_readWrong_23) rfl (lk_n q1564) rfl) <|
  xA0 (ok_iload_n (xdd xB_163 dX11_readWrong_26) rfl rfl) <|
  xA1 (ok_iaload (xdd xB_163 dX11_readWrong_27) rfl) <|
  xA0 (ok_bipush (xdd xB_163 dX11_readWrong_28) rfl rfl (xrg rfl)) <|
  xAB (ok_icmp_eq (xdd xB_163 dX11_readWrong_30) rfl rfl) <|
  xAe
theorem xe_163_1 {s0 : State} {A0 : Array Value} {D : va_G} {ta : Nat → ClassId} {l : Launch} : XAll s0 A0 D ta l 163 xk_163_1 :=
  xA0 (ok_aload_n (xdd xB_163 dX11_readWrong_33) rfl rfl) <|
  xA0 (ok_iconst (xdd xB_163 dX11_readWrong_34) rfl rfl (xrg rfl)) <|
  xAK rfl (xC1 (ok_callV (xdd xB_163 dX11_readWrong_35) rfl xq_9 rfl xp_152_1 q1710 q1712 qs56 q124 q1713) xC0) <|
  xA0 (ok_aload_n (xdd xB_163 dX11_readWrong_38) rfl rfl) <|
  xAK rfl (xC1 (ok_callV (xdd xB_163 dX11_readWrong_39) rfl xq_9 rfl xp_143_0 q1647 q1649 qs50 q124 q1650) xC0) <|
  xA0 (ok_aload_n (xdd xB_163 dX11_readWrong_42) rfl rfl) <|
  xA0 (ok_ldcwS (xdd xB_163 dX11_readWrong_43) rfl rfl) <|
  xAK rfl (xC1 (ok_callV (xdd xB_163 dX11_readWrong_46) rfl xq_9 rfl xp_154_1 q1719 q1721 qs58 q124 q1722) xC0) <|
  xA0 (ok_aload_n (xdd xB_163 dX11_readWrong_49) rfl rfl) <|
  xAK rfl (xC1 (ok_callV (xdd xB_163 dX11_readWrong_50) rfl xq_9 rfl xp_164_0 q1774 q1776 qs67 q124 q1777) xC0) <|
  xA0 (ok_istore_n (xdd xB_163 dX11_readWrong_53) rfl rfl) <|
  xA0 (ok_aload_n (xdd xB_163 dX11_readWrong_54) rfl rfl) <|
  xA1 (ok_getI (xdd xB_163 dX11_readWrong_55) rfl (lk_f q1412) (by decide)) <|
  xA0 (ok_iconst (xdd xB_163 dX11_readWrong_58) rfl rfl (xrg rfl)) <|
  xAB (ok_icmp_eq (xdd xB_163 dX11_readWrong_59) rfl rfl) <|
  xA0 (ok_iload_n (xdd xB_163 dX11_readWrong_62) rfl rfl) <|
  xA0 (ok_iload_n (xdd xB_163 dX11_readWrong_63) rfl rfl) <|
  xAe
theorem xe_163_2 {s0 : State} {A0 : Array Value} {D : va_G} {ta : Nat → ClassId} {l : Launch} : XAll s0 A0 D ta l 163 xk_163_2 :=
  xAB (ok_icmp_eq (xdd xB_163 dX11_readWrong_64) rfl rfl) <|
  xA0 (ok_aload_n (xdd xB_163 dX11_readWrong_67) rfl rfl) <|
  xA1 (ok_getA (xdd xB_163 dX11_readWrong_68) rfl (lk_f q1407) rfl) <|
  xA0 (ok_iload_n (xdd xB_163 dX11_readWrong_71) rfl rfl) <|
  xAK rfl (xC1 (ok_callV (xdd xB_163 dX11_readWrong_72) rfl xq_15 rfl xp_293_1 q1779 q1780 q1781 q137 q1782) xC0) <|
  xAB (ok_if_eq (xdd xB_163 dX11_readWrong_75) rfl rfl) <|
  xA0 (ok_aload_n (xdd xB_163 dX11_readWrong_78) rfl rfl) <|
  xA0 (ok_iconst (xdd xB_163 dX11_readWrong_79) rfl rfl (xrg rfl)) <|
  xAK rfl (xC1 (ok_callV (xdd xB_163 dX11_readWrong_80) rfl xq_9 rfl xp_152_1 q1710 q1712 qs56 q124 q1713) xC0) <|
  xA0 (ok_aload_n (xdd xB_163 dX11_readWrong_83) rfl rfl) <|
  xAK rfl (xC1 (ok_callV (xdd xB_163 dX11_readWrong_84) rfl xq_9 rfl xp_143_0 q1647 q1649 qs50 q124 q1650) xC0) <|
  xA0 (ok_aload_n (xdd xB_163 dX11_readWrong_87) rfl rfl) <|
  xA1 (ok_getI (xdd xB_163 dX11_readWrong_88) rfl (lk_f q1412) (by decide)) <|
  xA0 (ok_iconst (xdd xB_163 dX11_readWrong_91) rfl rfl (xrg rfl)) <|
  xAB (ok_icmp_ne (xdd xB_163 dX11_readWrong_92) rfl rfl) <|
  xAR (ok_vreturn (xdd xB_163 dX11_readWrong_95) rfl) <|
  xAe
theorem xe_163_3 {s0 : State} {A0 : Array Value} {D : va_G} {ta : Nat → ClassId} {l : Launch} : XAll s0 A0 D ta l 163 xk_163_3 :=
  xA0 (ok_aload_n (xdd xB_163 dX11_readWrong_96) rfl rfl) <|
  xA1 (ok_getA (xdd xB_163 dX11_readWrong_97) rfl (lk_f q1407) rfl) <|
  xA1 (ok_getA (xdd xB_163 dX11_readWrong_100) rfl (lk_n q1564) rfl) <|
  xA0 (ok_iload_n (xdd xB_163 dX11_readWrong_103) rfl rfl) <|
  xA0 (ok_iload_n (xdd xB_163 dX11_readWrong_104) rfl rfl) <|
  xA1 (ok_iastore (xdd xB_163 dX11_readWrong_105) rfl) <|
  xA0 (ok_aload_n (xdd xB_163 dX11_readWrong_106) rfl rfl) <|
  xA1 (ok_getA (xdd xB_163 dX11_readWrong_107) rfl (lk_f q1407) rfl) <|
  xA0 (ok_dup (xdd xB_163 dX11_readWrong_110) rfl) <|
  xA1 (ok_getI (xdd xB_163 dX11_readWrong_111) rfl (lk_n q1547) (by decide)) <|
  xA0 (ok_iconst (xdd xB_163 dX11_readWrong_114) rfl rfl (xrg rfl)) <|
  xA1 (ok_iadd (xdd xB_163 dX11_readWrong_115) rfl) <|
  xA1 (ok_putI (xdd xB_163 dX11_readWrong_116) rfl (lk_n q1547) rfl xfd_136 (Or.inl rfl)) <|
  xAR (ok_vreturn (xdd xB_163 dX11_readWrong_119) rfl) <|
  xAe
theorem xe_163 {s0 : State} {A0 : Array Value} {D : va_G} {ta : Nat → ClassId} {l : Launch} : XAllC s0 A0 D ta l 163 xk_163 := ⟨xe_163_0, xe_163_1, xe_163_2, xe_163_3, trivial⟩
theorem xe_164_0 {s0 : State} {A0 : Array Value} {D : va_G} {ta : Nat → ClassId} {l : Launch} : XAll s0 A0 D ta l 164 xk_164_0 :=
  xA0 (ok_aload_n (xdd xB_164 dX11_knownHouse_0) rfl rfl) <|
  xAK rfl (xC1 (ok_callV (xdd xB_164 dX11_knownHouse_1) rfl xq_9 rfl xp_160_0 q1744 q1746 qs63 q124 q1747) xC0) <|
  xAB (ok_if_ne (xdd xB_164 dX11_knownHouse_4) rfl rfl) <|
  xA0 (ok_aload_n (xdd xB_164 dX11_knownHouse_7) rfl rfl) <|
  xA0 (ok_iconst (xdd xB_164 dX11_knownHouse_8) rfl rfl (xrg rfl)) <|
  xAK rfl (xC1 (ok_callV (xdd xB_164 dX11_knownHouse_9) rfl xq_9 rfl xp_152_1 q1710 q1712 qs56 q124 q1713) xC0) <|
  xA0 (ok_aload_n (xdd xB_164 dX11_knownHouse_12) rfl rfl) <|
  xA1 (ok_getA (xdd xB_164 dX11_knownHouse_13) rfl (lk_f q1407) rfl) <|
  xA0 (ok_aload_n (xdd xB_164 dX11_knownHouse_16) rfl rfl) <|
  xA1 (ok_getJ (xdd xB_164 dX11_knownHouse_17) rfl (lk_f q1417) rfl) <|
  xAK rfl (xC1 (ok_callV (xdd xB_164 dX11_knownHouse_20) rfl xq_15 rfl xp_292_1 q1754 q1755 q1756 q137 q1757) xC0) <|
  xA0 (ok_istore_n (xdd xB_164 dX11_knownHouse_23) rfl rfl) <|
  xA0 (ok_iload_n (xdd xB_164 dX11_knownHouse_24) rfl rfl) <|
  xA0 (ok_iconst (xdd xB_164 dX11_knownHouse_25) rfl rfl (xrg rfl)) <|
  xAB (ok_icmp_eq (xdd xB_164 dX11_knownHouse_26) rfl rfl) <|
  xA0 (ok_aload_n (xdd xB_164 dX11_knownHouse_29) rfl rfl) <|
  xA1 (ok_getA (xdd xB_164 dX11_knownHouse_30) rfl (lk_f q1407) rfl) <|
  xAe
theorem xe_164_1 {s0 : State} {A0 : Array Value} {D : va_G} {ta : Nat → ClassId} {l : Launch} : XAll s0 A0 D ta l 164 xk_164_1 :=
  xA1 (ok_getA (xdd xB_164 dX11_knownHouse_33) rfl (lk_n q1588) rfl) <|
  xA0 (ok_iload_n (xdd xB_164 dX11_knownHouse_36) rfl rfl) <|
  xA1 (ok_iaload (xdd xB_164 dX11_knownHouse_37) rfl) <|
  xAB (ok_if_eq (xdd xB_164 dX11_knownHouse_38) rfl rfl) <|
  xA0 (ok_aload_n (xdd xB_164 dX11_knownHouse_41) rfl rfl) <|
  xA0 (ok_iconst (xdd xB_164 dX11_knownHouse_42) rfl rfl (xrg rfl)) <|
  xAK rfl (xC1 (ok_callV (xdd xB_164 dX11_knownHouse_43) rfl xq_9 rfl xp_152_1 q1710 q1712 qs56 q124 q1713) xC0) <|
  xA0 (ok_aload_n (xdd xB_164 dX11_knownHouse_46) rfl rfl) <|
  xA1 (ok_getI (xdd xB_164 dX11_knownHouse_47) rfl (lk_f q1412) (by decide)) <|
  xA0 (ok_iconst (xdd xB_164 dX11_knownHouse_50) rfl rfl (xrg rfl)) <|
  xAB (ok_icmp_ne (xdd xB_164 dX11_knownHouse_51) rfl rfl) <|
  xA0 (ok_iconst (xdd xB_164 dX11_knownHouse_54) rfl rfl (xrg rfl)) <|
  xA0 (ok_goto (xdd xB_164 dX11_knownHouse_55) rfl) <|
  xA0 (ok_aload_n (xdd xB_164 dX11_knownHouse_58) rfl rfl) <|
  xA1 (ok_getA (xdd xB_164 dX11_knownHouse_59) rfl (lk_f q1407) rfl) <|
  xA1 (ok_getA (xdd xB_164 dX11_knownHouse_62) rfl (lk_n q1590) rfl) <|
  xAe
theorem xe_164_2 {s0 : State} {A0 : Array Value} {D : va_G} {ta : Nat → ClassId} {l : Launch} : XAll s0 A0 D ta l 164 xk_164_2 :=
  xA0 (ok_iload_n (xdd xB_164 dX11_knownHouse_65) rfl rfl) <|
  xA1 (ok_iaload (xdd xB_164 dX11_knownHouse_66) rfl) <|
  xAR (ok_ireturn (xdd xB_164 dX11_knownHouse_67) rfl) <|
  xAe
theorem xe_164 {s0 : State} {A0 : Array Value} {D : va_G} {ta : Nat → ClassId} {l : Launch} : XAllC s0 A0 D ta l 164 xk_164 := ⟨xe_164_0, xe_164_1, xe_164_2, trivial⟩
theorem xe_165_0 {s0 : State} {A0 : Array Value} {D : va_G} {ta : Nat → ClassId} {l : Launch} : XAll s0 A0 D ta l 165 xk_165_0 :=
  xA0 (ok_aload_n (xdd xB_165 dX11_readOpen_0) rfl rfl) <|
  xA0 (ok_iconst (xdd xB_165 dX11_readOpen_1) rfl rfl (xrg rfl)) <|
  xA0 (ok_iconst (xdd xB_165 dX11_readOpen_2) rfl rfl (xrg rfl)) <|
  xAK rfl (xC1 (ok_callV (xdd xB_165 dX11_readOpen_3) rfl xq_9 rfl xp_158_2 q1736 q1738 qs61 q124 q1739) xC0) <|
  xA0 (ok_aload_n (xdd xB_165 dX11_readOpen_6) rfl rfl) <|
  xAK rfl (xC1 (ok_callV (xdd xB_165 dX11_readOpen_7) rfl xq_9 rfl xp_164_0 q1774 q1776 qs67 q124 q1777) xC0) <|
  xA0 (ok_istore_n (xdd xB_165 dX11_readOpen_10) rfl rfl) <|
  xA0 (ok_aload_n (xdd xB_165 dX11_readOpen_11) rfl rfl) <|
  xA1 (ok_getI (xdd xB_165 dX11_readOpen_12) rfl (lk_f q1412) (by decide)) <|
  xA0 (ok_iconst (xdd xB_165 dX11_readOpen_15) rfl rfl (xrg rfl)) <|
  xAB (ok_icmp_eq (xdd xB_165 dX11_readOpen_16) rfl rfl) <|
  xA0 (ok_aload_n (xdd xB_165 dX11_readOpen_19) rfl rfl) <|
  xA1 (ok_getA (xdd xB_165 dX11_readOpen_20) rfl (lk_f q1407) rfl) <|
  xA0 (ok_iload_n (xdd xB_165 dX11_readOpen_23) rfl rfl) <|
  xAK rfl (xC1 (ok_callV (xdd xB_165 dX11_readOpen_24) rfl xq_15 rfl xp_294_1 q1787 q1788 q1789 q137 q1790) xC0) <|
  xAB (ok_if_eq (xdd xB_165 dX11_readOpen_27) rfl rfl) <|
  xA0 (ok_aload_n (xdd xB_165 dX11_readOpen_30) rfl rfl) <|
  xA0 (ok_iconst (xdd xB_165 dX11_readOpen_31) rfl rfl (xrg rfl)) <|
  xAe
theorem xe_165_1 {s0 : State} {A0 : Array Value} {D : va_G} {ta : Nat → ClassId} {l : Launch} : XAll s0 A0 D ta l 165 xk_165_1 :=
  xAK rfl (xC1 (ok_callV (xdd xB_165 dX11_readOpen_32) rfl xq_9 rfl xp_152_1 q1710 q1712 qs56 q124 q1713) xC0) <|
  xA0 (ok_aload_n (xdd xB_165 dX11_readOpen_35) rfl rfl) <|
  xAK rfl (xC1 (ok_callV (xdd xB_165 dX11_readOpen_36) rfl xq_9 rfl xp_143_0 q1647 q1649 qs50 q124 q1650) xC0) <|
  xA0 (ok_aload_n (xdd xB_165 dX11_readOpen_39) rfl rfl) <|
  xA0 (ok_ldcwS (xdd xB_165 dX11_readOpen_40) rfl rfl) <|
  xA0 (ok_iconst (xdd xB_165 dX11_readOpen_43) rfl rfl (xrg rfl)) <|
  xA0 (ok_bipush (xdd xB_165 dX11_readOpen_44) rfl rfl (xrg rfl)) <|
  xAK rfl (xC1 (ok_callV (xdd xB_165 dX11_readOpen_46) rfl xq_9 rfl xp_153_3 q1715 q1717 qs57 q124 q1718) xC0) <|
  xA0 (ok_istore_n (xdd xB_165 dX11_readOpen_49) rfl rfl) <|
  xA0 (ok_aload_n (xdd xB_165 dX11_readOpen_50) rfl rfl) <|
  xA0 (ok_ldcwS (xdd xB_165 dX11_readOpen_51) rfl rfl) <|
  xA0 (ok_iload_n (xdd xB_165 dX11_readOpen_54) rfl rfl) <|
  xA0 (ok_bipush (xdd xB_165 dX11_readOpen_55) rfl rfl (xrg rfl)) <|
  xAK rfl (xC1 (ok_callV (xdd xB_165 dX11_readOpen_57) rfl xq_9 rfl xp_153_3 q1715 q1717 qs57 q124 q1718) xC0) <|
  xA0 (ok_istore_n (xdd xB_165 dX11_readOpen_60) rfl rfl) <|
  xA0 (ok_aload_n (xdd xB_165 dX11_readOpen_61) rfl rfl) <|
  xA1 (ok_getI (xdd xB_165 dX11_readOpen_62) rfl (lk_f q1412) (by decide)) <|
  xAe
theorem xe_165_2 {s0 : State} {A0 : Array Value} {D : va_G} {ta : Nat → ClassId} {l : Launch} : XAll s0 A0 D ta l 165 xk_165_2 :=
  xA0 (ok_iconst (xdd xB_165 dX11_readOpen_65) rfl rfl (xrg rfl)) <|
  xAB (ok_icmp_ne (xdd xB_165 dX11_readOpen_66) rfl rfl) <|
  xAR (ok_vreturn (xdd xB_165 dX11_readOpen_69) rfl) <|
  xA0 (ok_aload_n (xdd xB_165 dX11_readOpen_70) rfl rfl) <|
  xA1 (ok_getA (xdd xB_165 dX11_readOpen_71) rfl (lk_f q1407) rfl) <|
  xA1 (ok_getA (xdd xB_165 dX11_readOpen_74) rfl (lk_n q1566) rfl) <|
  xA0 (ok_iload_n (xdd xB_165 dX11_readOpen_77) rfl rfl) <|
  xA0 (ok_iload_n (xdd xB_165 dX11_readOpen_78) rfl rfl) <|
  xA1 (ok_iastore (xdd xB_165 dX11_readOpen_79) rfl) <|
  xA0 (ok_aload_n (xdd xB_165 dX11_readOpen_80) rfl rfl) <|
  xA1 (ok_getA (xdd xB_165 dX11_readOpen_81) rfl (lk_f q1407) rfl) <|
  xA1 (ok_getA (xdd xB_165 dX11_readOpen_84) rfl (lk_n q1568) rfl) <|
  xA0 (ok_iload_n (xdd xB_165 dX11_readOpen_87) rfl rfl) <|
  xA0 (ok_iload_n (xdd xB_165 dX11_readOpen_88) rfl rfl) <|
  xA1 (ok_iastore (xdd xB_165 dX11_readOpen_89) rfl) <|
  xA0 (ok_aload_n (xdd xB_165 dX11_readOpen_90) rfl rfl) <|
  xA1 (ok_getA (xdd xB_165 dX11_readOpen_91) rfl (lk_f q1407) rfl) <|
  xA0 (ok_dup (xdd xB_165 dX11_readOpen_94) rfl) <|
  xA1 (ok_getI (xdd xB_165 dX11_readOpen_95) rfl (lk_n q1548) (by decide)) <|
  xAe
theorem xe_165_3 {s0 : State} {A0 : Array Value} {D : va_G} {ta : Nat → ClassId} {l : Launch} : XAll s0 A0 D ta l 165 xk_165_3 :=
  xA0 (ok_iconst (xdd xB_165 dX11_readOpen_98) rfl rfl (xrg rfl)) <|
  xA1 (ok_iadd (xdd xB_165 dX11_readOpen_99) rfl) <|
  xA1 (ok_putI (xdd xB_165 dX11_readOpen_100) rfl (lk_n q1548) rfl xfd_137 (Or.inl rfl)) <|
  xAR (ok_vreturn (xdd xB_165 dX11_readOpen_103) rfl) <|
  xAe
theorem xe_165 {s0 : State} {A0 : Array Value} {D : va_G} {ta : Nat → ClassId} {l : Launch} : XAllC s0 A0 D ta l 165 xk_165 := ⟨xe_165_0, xe_165_1, xe_165_2, xe_165_3, trivial⟩
theorem xe_166_0 {s0 : State} {A0 : Array Value} {D : va_G} {ta : Nat → ClassId} {l : Launch} : XAll s0 A0 D ta l 166 xk_166_0 :=
  xA0 (ok_aload_n (xdd xB_166 dX11_readStreet_0) rfl rfl) <|
  xA0 (ok_aload_n (xdd xB_166 dX11_readStreet_1) rfl rfl) <|
  xA1 (ok_getA (xdd xB_166 dX11_readStreet_2) rfl (lk_f q1407) rfl) <|
  xA1 (ok_getI (xdd xB_166 dX11_readStreet_5) rfl (lk_n q1549) (by decide)) <|
  xA0 (ok_bipush (xdd xB_166 dX11_readStreet_8) rfl rfl (xrg rfl)) <|
  xAK rfl (xC1 (ok_callV (xdd xB_166 dX11_readStreet_10) rfl xq_9 rfl xp_158_2 q1736 q1738 qs61 q124 q1739) xC0) <|
  xA0 (ok_aload_n (xdd xB_166 dX11_readStreet_13) rfl rfl) <|
  xAK rfl (xC1 (ok_callV (xdd xB_166 dX11_readStreet_14) rfl xq_9 rfl xp_167_0 q1797 q1799 qs70 q124 q1800) xC0) <|
  xA0 (ok_istore_n (xdd xB_166 dX11_readStreet_17) rfl rfl) <|
  xA0 (ok_aload_n (xdd xB_166 dX11_readStreet_18) rfl rfl) <|
  xAK rfl (xC1 (ok_callV (xdd xB_166 dX11_readStreet_19) rfl xq_9 rfl xp_164_0 q1774 q1776 qs67 q124 q1777) xC0) <|
  xA0 (ok_istore_n (xdd xB_166 dX11_readStreet_22) rfl rfl) <|
  xA0 (ok_aload_n (xdd xB_166 dX11_readStreet_23) rfl rfl) <|
  xA1 (ok_getI (xdd xB_166 dX11_readStreet_24) rfl (lk_f q1412) (by decide)) <|
  xA0 (ok_iconst (xdd xB_166 dX11_readStreet_27) rfl rfl (xrg rfl)) <|
  xAB (ok_icmp_eq (xdd xB_166 dX11_readStreet_28) rfl rfl) <|
  xA0 (ok_iload_n (xdd xB_166 dX11_readStreet_31) rfl rfl) <|
  xAe
theorem xe_166_1 {s0 : State} {A0 : Array Value} {D : va_G} {ta : Nat → ClassId} {l : Launch} : XAll s0 A0 D ta l 166 xk_166_1 :=
  xA0 (ok_iload_n (xdd xB_166 dX11_readStreet_32) rfl rfl) <|
  xAB (ok_icmp_eq (xdd xB_166 dX11_readStreet_33) rfl rfl) <|
  xA0 (ok_aload_n (xdd xB_166 dX11_readStreet_36) rfl rfl) <|
  xA1 (ok_getA (xdd xB_166 dX11_readStreet_37) rfl (lk_f q1407) rfl) <|
  xA1 (ok_getA (xdd xB_166 dX11_readStreet_40) rfl (lk_n q1572) rfl) <|
  xA0 (ok_bipush (xdd xB_166 dX11_readStreet_43) rfl rfl (xrg rfl)) <|
  xA0 (ok_iload_n (xdd xB_166 dX11_readStreet_45) rfl rfl) <|
  xA1 (ok_imul (xdd xB_166 dX11_readStreet_46) rfl) <|
  xA0 (ok_iload_n (xdd xB_166 dX11_readStreet_47) rfl rfl) <|
  xA1 (ok_iadd (xdd xB_166 dX11_readStreet_48) rfl) <|
  xA1 (ok_iaload (xdd xB_166 dX11_readStreet_49) rfl) <|
  xAB (ok_if_le (xdd xB_166 dX11_readStreet_50) rfl rfl) <|
  xA0 (ok_aload_n (xdd xB_166 dX11_readStreet_53) rfl rfl) <|
  xA0 (ok_iconst (xdd xB_166 dX11_readStreet_54) rfl rfl (xrg rfl)) <|
  xAK rfl (xC1 (ok_callV (xdd xB_166 dX11_readStreet_55) rfl xq_9 rfl xp_152_1 q1710 q1712 qs56 q124 q1713) xC0) <|
  xA0 (ok_aload_n (xdd xB_166 dX11_readStreet_58) rfl rfl) <|
  xAK rfl (xC1 (ok_callV (xdd xB_166 dX11_readStreet_59) rfl xq_9 rfl xp_143_0 q1647 q1649 qs50 q124 q1650) xC0) <|
  xA0 (ok_aload_n (xdd xB_166 dX11_readStreet_62) rfl rfl) <|
  xA0 (ok_ldcwS (xdd xB_166 dX11_readStreet_63) rfl rfl) <|
  xAe
theorem xe_166_2 {s0 : State} {A0 : Array Value} {D : va_G} {ta : Nat → ClassId} {l : Launch} : XAll s0 A0 D ta l 166 xk_166_2 :=
  xA0 (ok_iconst (xdd xB_166 dX11_readStreet_66) rfl rfl (xrg rfl)) <|
  xA0 (ok_bipush (xdd xB_166 dX11_readStreet_67) rfl rfl (xrg rfl)) <|
  xAK rfl (xC1 (ok_callV (xdd xB_166 dX11_readStreet_69) rfl xq_9 rfl xp_153_3 q1715 q1717 qs57 q124 q1718) xC0) <|
  xA0 (ok_istore_n (xdd xB_166 dX11_readStreet_72) rfl rfl) <|
  xA0 (ok_aload_n (xdd xB_166 dX11_readStreet_73) rfl rfl) <|
  xA1 (ok_getI (xdd xB_166 dX11_readStreet_74) rfl (lk_f q1412) (by decide)) <|
  xA0 (ok_iconst (xdd xB_166 dX11_readStreet_77) rfl rfl (xrg rfl)) <|
  xAB (ok_icmp_ne (xdd xB_166 dX11_readStreet_78) rfl rfl) <|
  xAR (ok_vreturn (xdd xB_166 dX11_readStreet_81) rfl) <|
  xA0 (ok_aload_n (xdd xB_166 dX11_readStreet_82) rfl rfl) <|
  xA1 (ok_getA (xdd xB_166 dX11_readStreet_83) rfl (lk_f q1407) rfl) <|
  xA1 (ok_getA (xdd xB_166 dX11_readStreet_86) rfl (lk_n q1572) rfl) <|
  xA0 (ok_bipush (xdd xB_166 dX11_readStreet_89) rfl rfl (xrg rfl)) <|
  xA0 (ok_iload_n (xdd xB_166 dX11_readStreet_91) rfl rfl) <|
  xA1 (ok_imul (xdd xB_166 dX11_readStreet_92) rfl) <|
  xA0 (ok_iload_n (xdd xB_166 dX11_readStreet_93) rfl rfl) <|
  xA1 (ok_iadd (xdd xB_166 dX11_readStreet_94) rfl) <|
  xA0 (ok_iload_n (xdd xB_166 dX11_readStreet_95) rfl rfl) <|
  xAe
theorem xe_166_3 {s0 : State} {A0 : Array Value} {D : va_G} {ta : Nat → ClassId} {l : Launch} : XAll s0 A0 D ta l 166 xk_166_3 :=
  xA1 (ok_iastore (xdd xB_166 dX11_readStreet_96) rfl) <|
  xA0 (ok_aload_n (xdd xB_166 dX11_readStreet_97) rfl rfl) <|
  xA1 (ok_getA (xdd xB_166 dX11_readStreet_98) rfl (lk_f q1407) rfl) <|
  xA1 (ok_getA (xdd xB_166 dX11_readStreet_101) rfl (lk_n q1572) rfl) <|
  xA0 (ok_bipush (xdd xB_166 dX11_readStreet_104) rfl rfl (xrg rfl)) <|
  xA0 (ok_iload_n (xdd xB_166 dX11_readStreet_106) rfl rfl) <|
  xA1 (ok_imul (xdd xB_166 dX11_readStreet_107) rfl) <|
  xA0 (ok_iload_n (xdd xB_166 dX11_readStreet_108) rfl rfl) <|
  xA1 (ok_iadd (xdd xB_166 dX11_readStreet_109) rfl) <|
  xA0 (ok_iload_n (xdd xB_166 dX11_readStreet_110) rfl rfl) <|
  xA1 (ok_iastore (xdd xB_166 dX11_readStreet_111) rfl) <|
  xA0 (ok_aload_n (xdd xB_166 dX11_readStreet_112) rfl rfl) <|
  xA1 (ok_getA (xdd xB_166 dX11_readStreet_113) rfl (lk_f q1407) rfl) <|
  xA0 (ok_dup (xdd xB_166 dX11_readStreet_116) rfl) <|
  xA1 (ok_getI (xdd xB_166 dX11_readStreet_117) rfl (lk_n q1549) (by decide)) <|
  xA0 (ok_iconst (xdd xB_166 dX11_readStreet_120) rfl rfl (xrg rfl)) <|
  xA1 (ok_iadd (xdd xB_166 dX11_readStreet_121) rfl) <|
  xA1 (ok_putI (xdd xB_166 dX11_readStreet_122) rfl (lk_n q1549) rfl xfd_138 (Or.inl rfl)) <|
  xAR (ok_vreturn (xdd xB_166 dX11_readStreet_125) rfl) <|
  xAe
theorem xe_166 {s0 : State} {A0 : Array Value} {D : va_G} {ta : Nat → ClassId} {l : Launch} : XAllC s0 A0 D ta l 166 xk_166 := ⟨xe_166_0, xe_166_1, xe_166_2, xe_166_3, trivial⟩
theorem xe_167_0 {s0 : State} {A0 : Array Value} {D : va_G} {ta : Nat → ClassId} {l : Launch} : XAll s0 A0 D ta l 167 xk_167_0 :=
  xA0 (ok_aload_n (xdd xB_167 dX11_readHouse_0) rfl rfl) <|
  xAK rfl (xC1 (ok_callV (xdd xB_167 dX11_readHouse_1) rfl xq_9 rfl xp_164_0 q1774 q1776 qs67 q124 q1777) xC0) <|
  xA0 (ok_istore_n (xdd xB_167 dX11_readHouse_4) rfl rfl) <|
  xA0 (ok_aload_n (xdd xB_167 dX11_readHouse_5) rfl rfl) <|
  xAK rfl (xC1 (ok_callV (xdd xB_167 dX11_readHouse_6) rfl xq_9 rfl xp_143_0 q1647 q1649 qs50 q124 q1650) xC0) <|
  xA0 (ok_iload_n (xdd xB_167 dX11_readHouse_9) rfl rfl) <|
  xAR (ok_ireturn (xdd xB_167 dX11_readHouse_10) rfl) <|
  xAe
theorem xe_167 {s0 : State} {A0 : Array Value} {D : va_G} {ta : Nat → ClassId} {l : Launch} : XAllC s0 A0 D ta l 167 xk_167 := ⟨xe_167_0, trivial⟩
theorem xe_168_0 {s0 : State} {A0 : Array Value} {D : va_G} {ta : Nat → ClassId} {l : Launch} : XAll s0 A0 D ta l 168 xk_168_0 :=
  xA0 (ok_aload_n (xdd xB_168 dX11_readPerson_0) rfl rfl) <|
  xA0 (ok_aload_n (xdd xB_168 dX11_readPerson_1) rfl rfl) <|
  xA1 (ok_getA (xdd xB_168 dX11_readPerson_2) rfl (lk_f q1407) rfl) <|
  xA1 (ok_getI (xdd xB_168 dX11_readPerson_5) rfl (lk_n q1550) (by decide)) <|
  xA0 (ok_iconst (xdd xB_168 dX11_readPerson_8) rfl rfl (xrg rfl)) <|
  xAK rfl (xC1 (ok_callV (xdd xB_168 dX11_readPerson_9) rfl xq_9 rfl xp_158_2 q1736 q1738 qs61 q124 q1739) xC0) <|
  xA0 (ok_aload_n (xdd xB_168 dX11_readPerson_12) rfl rfl) <|
  xAK rfl (xC1 (ok_callV (xdd xB_168 dX11_readPerson_13) rfl xq_9 rfl xp_159_0 q1740 q1742 qs62 q124 q1743) xC0) <|
  xA0 (ok_lstore_n (xdd xB_168 dX11_readPerson_16) rfl rfl) <|
  xA0 (ok_aload_n (xdd xB_168 dX11_readPerson_17) rfl rfl) <|
  xA0 (ok_ldcwS (xdd xB_168 dX11_readPerson_18) rfl rfl) <|
  xAK rfl (xC1 (ok_callV (xdd xB_168 dX11_readPerson_21) rfl xq_9 rfl xp_169_1 q1807 q1809 qs72 q124 q1810) xC0) <|
  xA0 (ok_istore_n (xdd xB_168 dX11_readPerson_24) rfl rfl) <|
  xA0 (ok_aload_n (xdd xB_168 dX11_readPerson_25) rfl rfl) <|
  xA0 (ok_ldcwS (xdd xB_168 dX11_readPerson_26) rfl rfl) <|
  xAK rfl (xC1 (ok_callV (xdd xB_168 dX11_readPerson_29) rfl xq_9 rfl xp_169_1 q1807 q1809 qs72 q124 q1810) xC0) <|
  xAe
theorem xe_168_1 {s0 : State} {A0 : Array Value} {D : va_G} {ta : Nat → ClassId} {l : Launch} : XAll s0 A0 D ta l 168 xk_168_1 :=
  xA0 (ok_istore (xdd xB_168 dX11_readPerson_32) rfl) <|
  xA0 (ok_aload_n (xdd xB_168 dX11_readPerson_34) rfl rfl) <|
  xA1 (ok_getI (xdd xB_168 dX11_readPerson_35) rfl (lk_f q1412) (by decide)) <|
  xA0 (ok_iconst (xdd xB_168 dX11_readPerson_38) rfl rfl (xrg rfl)) <|
  xAB (ok_icmp_ne (xdd xB_168 dX11_readPerson_39) rfl rfl) <|
  xAR (ok_vreturn (xdd xB_168 dX11_readPerson_42) rfl) <|
  xA0 (ok_aload_n (xdd xB_168 dX11_readPerson_43) rfl rfl) <|
  xA0 (ok_lload_n (xdd xB_168 dX11_readPerson_44) rfl rfl) <|
  xA0 (ok_iconst (xdd xB_168 dX11_readPerson_45) rfl rfl (xrg rfl)) <|
  xA0 (ok_aload_n (xdd xB_168 dX11_readPerson_46) rfl rfl) <|
  xA1 (ok_getA (xdd xB_168 dX11_readPerson_47) rfl (lk_f q1407) rfl) <|
  xA1 (ok_getI (xdd xB_168 dX11_readPerson_50) rfl (lk_n q1550) (by decide)) <|
  xAK rfl (xC1 (ok_callV (xdd xB_168 dX11_readPerson_53) rfl xq_9 rfl xp_162_3 q1766 q1768 qs65 q124 q1769) xC0) <|
  xA0 (ok_aload_n (xdd xB_168 dX11_readPerson_56) rfl rfl) <|
  xA1 (ok_getA (xdd xB_168 dX11_readPerson_57) rfl (lk_f q1407) rfl) <|
  xA1 (ok_getA (xdd xB_168 dX11_readPerson_60) rfl (lk_n q1574) rfl) <|
  xA0 (ok_aload_n (xdd xB_168 dX11_readPerson_63) rfl rfl) <|
  xAe
theorem xe_168_2 {s0 : State} {A0 : Array Value} {D : va_G} {ta : Nat → ClassId} {l : Launch} : XAll s0 A0 D ta l 168 xk_168_2 :=
  xA1 (ok_getA (xdd xB_168 dX11_readPerson_64) rfl (lk_f q1407) rfl) <|
  xA1 (ok_getI (xdd xB_168 dX11_readPerson_67) rfl (lk_n q1550) (by decide)) <|
  xA0 (ok_iload_n (xdd xB_168 dX11_readPerson_70) rfl rfl) <|
  xA1 (ok_iastore (xdd xB_168 dX11_readPerson_71) rfl) <|
  xA0 (ok_aload_n (xdd xB_168 dX11_readPerson_72) rfl rfl) <|
  xA1 (ok_getA (xdd xB_168 dX11_readPerson_73) rfl (lk_f q1407) rfl) <|
  xA1 (ok_getA (xdd xB_168 dX11_readPerson_76) rfl (lk_n q1576) rfl) <|
  xA0 (ok_aload_n (xdd xB_168 dX11_readPerson_79) rfl rfl) <|
  xA1 (ok_getA (xdd xB_168 dX11_readPerson_80) rfl (lk_f q1407) rfl) <|
  xA1 (ok_getI (xdd xB_168 dX11_readPerson_83) rfl (lk_n q1550) (by decide)) <|
  xA0 (ok_iload (xdd xB_168 dX11_readPerson_86) rfl) <|
  xA1 (ok_iastore (xdd xB_168 dX11_readPerson_88) rfl) <|
  xA0 (ok_aload_n (xdd xB_168 dX11_readPerson_89) rfl rfl) <|
  xA1 (ok_getA (xdd xB_168 dX11_readPerson_90) rfl (lk_f q1407) rfl) <|
  xA0 (ok_dup (xdd xB_168 dX11_readPerson_93) rfl) <|
  xA1 (ok_getI (xdd xB_168 dX11_readPerson_94) rfl (lk_n q1550) (by decide)) <|
  xAe
theorem xe_168_3 {s0 : State} {A0 : Array Value} {D : va_G} {ta : Nat → ClassId} {l : Launch} : XAll s0 A0 D ta l 168 xk_168_3 :=
  xA0 (ok_iconst (xdd xB_168 dX11_readPerson_97) rfl rfl (xrg rfl)) <|
  xA1 (ok_iadd (xdd xB_168 dX11_readPerson_98) rfl) <|
  xA1 (ok_putI (xdd xB_168 dX11_readPerson_99) rfl (lk_n q1550) rfl xfd_139 (Or.inl rfl)) <|
  xAR (ok_vreturn (xdd xB_168 dX11_readPerson_102) rfl) <|
  xAe
theorem xe_168 {s0 : State} {A0 : Array Value} {D : va_G} {ta : Nat → ClassId} {l : Launch} : XAllC s0 A0 D ta l 168 xk_168 := ⟨xe_168_0, xe_168_1, xe_168_2, xe_168_3, trivial⟩
theorem xe_169_0 {s0 : State} {A0 : Array Value} {D : va_G} {ta : Nat → ClassId} {l : Launch} : XAll s0 A0 D ta l 169 xk_169_0 :=
  xA0 (ok_aload_n (xdd xB_169 dX11_readPartHouse_0) rfl rfl) <|
  xA0 (ok_aload_n (xdd xB_169 dX11_readPartHouse_1) rfl rfl) <|
  xAK rfl (xC1 (ok_callV (xdd xB_169 dX11_readPartHouse_2) rfl xq_9 rfl xp_154_1 q1719 q1721 qs58 q124 q1722) xC0) <|
  xA0 (ok_aload_n (xdd xB_169 dX11_readPartHouse_5) rfl rfl) <|
  xAK rfl (xC1 (ok_callV (xdd xB_169 dX11_readPartHouse_6) rfl xq_9 rfl xp_167_0 q1797 q1799 qs70 q124 q1800) xC0) <|
  xAR (ok_ireturn (xdd xB_169 dX11_readPartHouse_9) rfl) <|
  xAe
theorem xe_169 {s0 : State} {A0 : Array Value} {D : va_G} {ta : Nat → ClassId} {l : Launch} : XAllC s0 A0 D ta l 169 xk_169 := ⟨xe_169_0, trivial⟩
theorem xe_170_0 {s0 : State} {A0 : Array Value} {D : va_G} {ta : Nat → ClassId} {l : Launch} : XAll s0 A0 D ta l 170 xk_170_0 :=
  xA0 (ok_aload_n (xdd xB_170 dX11_readSign_0) rfl rfl) <|
  xA0 (ok_aload_n (xdd xB_170 dX11_readSign_1) rfl rfl) <|
  xA1 (ok_getA (xdd xB_170 dX11_readSign_2) rfl (lk_f q1407) rfl) <|
  xA1 (ok_getI (xdd xB_170 dX11_readSign_5) rfl (lk_n q1552) (by decide)) <|
  xA0 (ok_bipush (xdd xB_170 dX11_readSign_8) rfl rfl (xrg rfl)) <|
  xAK rfl (xC1 (ok_callV (xdd xB_170 dX11_readSign_10) rfl xq_9 rfl xp_158_2 q1736 q1738 qs61 q124 q1739) xC0) <|
  xA0 (ok_aload_n (xdd xB_170 dX11_readSign_13) rfl rfl) <|
  xAK rfl (xC1 (ok_callV (xdd xB_170 dX11_readSign_14) rfl xq_9 rfl xp_167_0 q1797 q1799 qs70 q124 q1800) xC0) <|
  xA0 (ok_istore_n (xdd xB_170 dX11_readSign_17) rfl rfl) <|
  xA0 (ok_aload_n (xdd xB_170 dX11_readSign_18) rfl rfl) <|
  xAK rfl (xC1 (ok_callV (xdd xB_170 dX11_readSign_19) rfl xq_9 rfl xp_161_0 q1762 q1764 qs64 q124 q1765) xC0) <|
  xA0 (ok_lstore_n (xdd xB_170 dX11_readSign_22) rfl rfl) <|
  xA0 (ok_aload_n (xdd xB_170 dX11_readSign_23) rfl rfl) <|
  xA1 (ok_getI (xdd xB_170 dX11_readSign_24) rfl (lk_f q1412) (by decide)) <|
  xA0 (ok_iconst (xdd xB_170 dX11_readSign_27) rfl rfl (xrg rfl)) <|
  xAB (ok_icmp_ne (xdd xB_170 dX11_readSign_28) rfl rfl) <|
  xAR (ok_vreturn (xdd xB_170 dX11_readSign_31) rfl) <|
  xAe
theorem xe_170_1 {s0 : State} {A0 : Array Value} {D : va_G} {ta : Nat → ClassId} {l : Launch} : XAll s0 A0 D ta l 170 xk_170_1 :=
  xA0 (ok_aload_n (xdd xB_170 dX11_readSign_32) rfl rfl) <|
  xA1 (ok_getA (xdd xB_170 dX11_readSign_33) rfl (lk_f q1407) rfl) <|
  xA1 (ok_getA (xdd xB_170 dX11_readSign_36) rfl (lk_n q1578) rfl) <|
  xA0 (ok_aload_n (xdd xB_170 dX11_readSign_39) rfl rfl) <|
  xA1 (ok_getA (xdd xB_170 dX11_readSign_40) rfl (lk_f q1407) rfl) <|
  xA1 (ok_getI (xdd xB_170 dX11_readSign_43) rfl (lk_n q1552) (by decide)) <|
  xA0 (ok_iload_n (xdd xB_170 dX11_readSign_46) rfl rfl) <|
  xA1 (ok_iastore (xdd xB_170 dX11_readSign_47) rfl) <|
  xA0 (ok_aload_n (xdd xB_170 dX11_readSign_48) rfl rfl) <|
  xA1 (ok_getA (xdd xB_170 dX11_readSign_49) rfl (lk_f q1407) rfl) <|
  xA1 (ok_getA (xdd xB_170 dX11_readSign_52) rfl (lk_n q1584) rfl) <|
  xA0 (ok_aload_n (xdd xB_170 dX11_readSign_55) rfl rfl) <|
  xA1 (ok_getA (xdd xB_170 dX11_readSign_56) rfl (lk_f q1407) rfl) <|
  xA1 (ok_getI (xdd xB_170 dX11_readSign_59) rfl (lk_n q1552) (by decide)) <|
  xA0 (ok_lload_n (xdd xB_170 dX11_readSign_62) rfl rfl) <|
  xA1 (ok_lastore (xdd xB_170 dX11_readSign_63) rfl) <|
  xAe
theorem xe_170_2 {s0 : State} {A0 : Array Value} {D : va_G} {ta : Nat → ClassId} {l : Launch} : XAll s0 A0 D ta l 170 xk_170_2 :=
  xA0 (ok_aload_n (xdd xB_170 dX11_readSign_64) rfl rfl) <|
  xA1 (ok_getA (xdd xB_170 dX11_readSign_65) rfl (lk_f q1407) rfl) <|
  xA0 (ok_dup (xdd xB_170 dX11_readSign_68) rfl) <|
  xA1 (ok_getI (xdd xB_170 dX11_readSign_69) rfl (lk_n q1552) (by decide)) <|
  xA0 (ok_iconst (xdd xB_170 dX11_readSign_72) rfl rfl (xrg rfl)) <|
  xA1 (ok_iadd (xdd xB_170 dX11_readSign_73) rfl) <|
  xA1 (ok_putI (xdd xB_170 dX11_readSign_74) rfl (lk_n q1552) rfl xfd_140 (Or.inl rfl)) <|
  xAR (ok_vreturn (xdd xB_170 dX11_readSign_77) rfl) <|
  xAe
theorem xe_170 {s0 : State} {A0 : Array Value} {D : va_G} {ta : Nat → ClassId} {l : Launch} : XAllC s0 A0 D ta l 170 xk_170 := ⟨xe_170_0, xe_170_1, xe_170_2, trivial⟩
theorem xe_171_0 {s0 : State} {A0 : Array Value} {D : va_G} {ta : Nat → ClassId} {l : Launch} : XAll s0 A0 D ta l 171 xk_171_0 :=
  xA0 (ok_aload_n (xdd xB_171 dX11_readNoise_0) rfl rfl) <|
  xA0 (ok_aload_n (xdd xB_171 dX11_readNoise_1) rfl rfl) <|
  xA1 (ok_getA (xdd xB_171 dX11_readNoise_2) rfl (lk_f q1407) rfl) <|
  xA1 (ok_getI (xdd xB_171 dX11_readNoise_5) rfl (lk_n q1554) (by decide)) <|
  xA0 (ok_iconst (xdd xB_171 dX11_readNoise_8) rfl rfl (xrg rfl)) <|
  xAK rfl (xC1 (ok_callV (xdd xB_171 dX11_readNoise_9) rfl xq_9 rfl xp_158_2 q1736 q1738 qs61 q124 q1739) xC0) <|
  xA0 (ok_aload_n (xdd xB_171 dX11_readNoise_12) rfl rfl) <|
  xAK rfl (xC1 (ok_callV (xdd xB_171 dX11_readNoise_13) rfl xq_9 rfl xp_167_0 q1797 q1799 qs70 q124 q1800) xC0) <|
  xA0 (ok_istore_n (xdd xB_171 dX11_readNoise_16) rfl rfl) <|
  xA0 (ok_aload_n (xdd xB_171 dX11_readNoise_17) rfl rfl) <|
  xA0 (ok_iconst (xdd xB_171 dX11_readNoise_18) rfl rfl (xrg rfl)) <|
  xA0 (ok_bipush (xdd xB_171 dX11_readNoise_19) rfl rfl (xrg rfl)) <|
  xAK rfl (xC1 (ok_callV (xdd xB_171 dX11_readNoise_21) rfl xq_9 rfl xp_155_2 q1723 q1725 qs59 q124 q1726) xC0) <|
  xA0 (ok_istore_n (xdd xB_171 dX11_readNoise_24) rfl rfl) <|
  xA0 (ok_aload_n (xdd xB_171 dX11_readNoise_25) rfl rfl) <|
  xA1 (ok_getI (xdd xB_171 dX11_readNoise_26) rfl (lk_f q1412) (by decide)) <|
  xA0 (ok_iconst (xdd xB_171 dX11_readNoise_29) rfl rfl (xrg rfl)) <|
  xAB (ok_icmp_ne (xdd xB_171 dX11_readNoise_30) rfl rfl) <|
  xAe
theorem xe_171_1 {s0 : State} {A0 : Array Value} {D : va_G} {ta : Nat → ClassId} {l : Launch} : XAll s0 A0 D ta l 171 xk_171_1 :=
  xAR (ok_vreturn (xdd xB_171 dX11_readNoise_33) rfl) <|
  xA0 (ok_aload_n (xdd xB_171 dX11_readNoise_34) rfl rfl) <|
  xA1 (ok_getA (xdd xB_171 dX11_readNoise_35) rfl (lk_f q1407) rfl) <|
  xA1 (ok_getA (xdd xB_171 dX11_readNoise_38) rfl (lk_n q1580) rfl) <|
  xA0 (ok_aload_n (xdd xB_171 dX11_readNoise_41) rfl rfl) <|
  xA1 (ok_getA (xdd xB_171 dX11_readNoise_42) rfl (lk_f q1407) rfl) <|
  xA1 (ok_getI (xdd xB_171 dX11_readNoise_45) rfl (lk_n q1554) (by decide)) <|
  xA0 (ok_iload_n (xdd xB_171 dX11_readNoise_48) rfl rfl) <|
  xA1 (ok_iastore (xdd xB_171 dX11_readNoise_49) rfl) <|
  xA0 (ok_aload_n (xdd xB_171 dX11_readNoise_50) rfl rfl) <|
  xA1 (ok_getA (xdd xB_171 dX11_readNoise_51) rfl (lk_f q1407) rfl) <|
  xA1 (ok_getA (xdd xB_171 dX11_readNoise_54) rfl (lk_n q1582) rfl) <|
  xA0 (ok_aload_n (xdd xB_171 dX11_readNoise_57) rfl rfl) <|
  xA1 (ok_getA (xdd xB_171 dX11_readNoise_58) rfl (lk_f q1407) rfl) <|
  xA1 (ok_getI (xdd xB_171 dX11_readNoise_61) rfl (lk_n q1554) (by decide)) <|
  xAe
theorem xe_171_2 {s0 : State} {A0 : Array Value} {D : va_G} {ta : Nat → ClassId} {l : Launch} : XAll s0 A0 D ta l 171 xk_171_2 :=
  xA0 (ok_iload_n (xdd xB_171 dX11_readNoise_64) rfl rfl) <|
  xA1 (ok_iastore (xdd xB_171 dX11_readNoise_65) rfl) <|
  xA0 (ok_aload_n (xdd xB_171 dX11_readNoise_66) rfl rfl) <|
  xA1 (ok_getA (xdd xB_171 dX11_readNoise_67) rfl (lk_f q1407) rfl) <|
  xA0 (ok_dup (xdd xB_171 dX11_readNoise_70) rfl) <|
  xA1 (ok_getI (xdd xB_171 dX11_readNoise_71) rfl (lk_n q1554) (by decide)) <|
  xA0 (ok_iconst (xdd xB_171 dX11_readNoise_74) rfl rfl (xrg rfl)) <|
  xA1 (ok_iadd (xdd xB_171 dX11_readNoise_75) rfl) <|
  xA1 (ok_putI (xdd xB_171 dX11_readNoise_76) rfl (lk_n q1554) rfl xfd_141 (Or.inl rfl)) <|
  xAR (ok_vreturn (xdd xB_171 dX11_readNoise_79) rfl) <|
  xAe
theorem xe_171 {s0 : State} {A0 : Array Value} {D : va_G} {ta : Nat → ClassId} {l : Launch} : XAllC s0 A0 D ta l 171 xk_171 := ⟨xe_171_0, xe_171_1, xe_171_2, trivial⟩
theorem xe_172_0 {s0 : State} {A0 : Array Value} {D : va_G} {ta : Nat → ClassId} {l : Launch} : XAll s0 A0 D ta l 172 xk_172_0 :=
  xA0 (ok_aload_n (xdd xB_172 dX11_eatsSemicolon_0) rfl rfl) <|
  xA1 (ok_getI (xdd xB_172 dX11_eatsSemicolon_1) rfl (lk_f q1412) (by decide)) <|
  xA0 (ok_iconst (xdd xB_172 dX11_eatsSemicolon_4) rfl rfl (xrg rfl)) <|
  xAB (ok_icmp_ne (xdd xB_172 dX11_eatsSemicolon_5) rfl rfl) <|
  xA0 (ok_iconst (xdd xB_172 dX11_eatsSemicolon_8) rfl rfl (xrg rfl)) <|
  xA0 (ok_goto (xdd xB_172 dX11_eatsSemicolon_9) rfl) <|
  xA0 (ok_iconst (xdd xB_172 dX11_eatsSemicolon_12) rfl rfl (xrg rfl)) <|
  xA0 (ok_istore_n (xdd xB_172 dX11_eatsSemicolon_13) rfl rfl) <|
  xA0 (ok_iload_n (xdd xB_172 dX11_eatsSemicolon_14) rfl rfl) <|
  xAB (ok_if_eq (xdd xB_172 dX11_eatsSemicolon_15) rfl rfl) <|
  xA0 (ok_aload_n (xdd xB_172 dX11_eatsSemicolon_18) rfl rfl) <|
  xAK rfl (xC1 (ok_callV (xdd xB_172 dX11_eatsSemicolon_19) rfl xq_9 rfl xp_143_0 q1647 q1649 qs50 q124 q1650) xC0) <|
  xA0 (ok_iload_n (xdd xB_172 dX11_eatsSemicolon_22) rfl rfl) <|
  xAR (ok_zreturn (xdd xB_172 dX11_eatsSemicolon_23) rfl) <|
  xAe
theorem xe_172 {s0 : State} {A0 : Array Value} {D : va_G} {ta : Nat → ClassId} {l : Launch} : XAllC s0 A0 D ta l 172 xk_172 := ⟨xe_172_0, trivial⟩
theorem xe_173_0 {s0 : State} {A0 : Array Value} {D : va_G} {ta : Nat → ClassId} {l : Launch} : XAll s0 A0 D ta l 173 xk_173_0 :=
  xA0 (ok_aload_n (xdd xB_173 dX11_laysStreets_0) rfl rfl) <|
  xA1 (ok_getA (xdd xB_173 dX11_laysStreets_1) rfl (lk_f q1406) rfl) <|
  xA1 (ok_getI (xdd xB_173 dX11_laysStreets_4) rfl (lk_n q1546) (by decide)) <|
  xA0 (ok_istore_n (xdd xB_173 dX11_laysStreets_7) rfl rfl) <|
  xA0 (ok_iconst (xdd xB_173 dX11_laysStreets_8) rfl rfl (xrg rfl)) <|
  xA0 (ok_istore_n (xdd xB_173 dX11_laysStreets_9) rfl rfl) <|
  xA0 (ok_iload_n (xdd xB_173 dX11_laysStreets_10) rfl rfl) <|
  xA0 (ok_bipush (xdd xB_173 dX11_laysStreets_11) rfl rfl (xrg rfl)) <|
  xAB (ok_icmp_ge (xdd xB_173 dX11_laysStreets_13) rfl rfl) <|
  xA0 (ok_aload_n (xdd xB_173 dX11_laysStreets_16) rfl rfl) <|
  xA1 (ok_getA (xdd xB_173 dX11_laysStreets_17) rfl (lk_f q1440) rfl) <|
  xA0 (ok_iload_n (xdd xB_173 dX11_laysStreets_20) rfl rfl) <|
  xA0 (ok_iload_n (xdd xB_173 dX11_laysStreets_21) rfl rfl) <|
  xA0 (ok_bipush (xdd xB_173 dX11_laysStreets_22) rfl rfl (xrg rfl)) <|
  xA1 (ok_idiv (xdd xB_173 dX11_laysStreets_24) rfl) <|
  xA0 (ok_iload_n (xdd xB_173 dX11_laysStreets_25) rfl rfl) <|
  xA0 (ok_bipush (xdd xB_173 dX11_laysStreets_26) rfl rfl (xrg rfl)) <|
  xA1 (ok_irem (xdd xB_173 dX11_laysStreets_28) rfl) <|
  xAB (ok_icmp_ne (xdd xB_173 dX11_laysStreets_29) rfl rfl) <|
  xAe
theorem xe_173_1 {s0 : State} {A0 : Array Value} {D : va_G} {ta : Nat → ClassId} {l : Launch} : XAll s0 A0 D ta l 173 xk_173_1 :=
  xA0 (ok_iconst (xdd xB_173 dX11_laysStreets_32) rfl rfl (xrg rfl)) <|
  xA0 (ok_goto (xdd xB_173 dX11_laysStreets_33) rfl) <|
  xA0 (ok_aload_n (xdd xB_173 dX11_laysStreets_36) rfl rfl) <|
  xA1 (ok_getA (xdd xB_173 dX11_laysStreets_37) rfl (lk_f q1406) rfl) <|
  xA1 (ok_getA (xdd xB_173 dX11_laysStreets_40) rfl (lk_n q1572) rfl) <|
  xA0 (ok_iload_n (xdd xB_173 dX11_laysStreets_43) rfl rfl) <|
  xA1 (ok_iaload (xdd xB_173 dX11_laysStreets_44) rfl) <|
  xAB (ok_if_le (xdd xB_173 dX11_laysStreets_45) rfl rfl) <|
  xA0 (ok_aload_n (xdd xB_173 dX11_laysStreets_48) rfl rfl) <|
  xA1 (ok_getA (xdd xB_173 dX11_laysStreets_49) rfl (lk_f q1406) rfl) <|
  xA1 (ok_getA (xdd xB_173 dX11_laysStreets_52) rfl (lk_n q1572) rfl) <|
  xA0 (ok_iload_n (xdd xB_173 dX11_laysStreets_55) rfl rfl) <|
  xA1 (ok_iaload (xdd xB_173 dX11_laysStreets_56) rfl) <|
  xA0 (ok_goto (xdd xB_173 dX11_laysStreets_57) rfl) <|
  xA0 (ok_ldcw (xdd xB_173 dX11_laysStreets_60) rfl q1828 rfl (xrg rfl)) <|
  xA1 (ok_iastore (xdd xB_173 dX11_laysStreets_63) rfl) <|
  xAe
theorem xe_173_2 {s0 : State} {A0 : Array Value} {D : va_G} {ta : Nat → ClassId} {l : Launch} : XAll s0 A0 D ta l 173 xk_173_2 :=
  xA1 (ok_iinc (xdd xB_173 dX11_laysStreets_64) rfl) <|
  xA0 (ok_goto (xdd xB_173 dX11_laysStreets_67) rfl) <|
  xA0 (ok_iconst (xdd xB_173 dX11_laysStreets_70) rfl rfl (xrg rfl)) <|
  xA0 (ok_istore_n (xdd xB_173 dX11_laysStreets_71) rfl rfl) <|
  xA0 (ok_iload_n (xdd xB_173 dX11_laysStreets_72) rfl rfl) <|
  xA0 (ok_iload_n (xdd xB_173 dX11_laysStreets_73) rfl rfl) <|
  xAB (ok_icmp_ge (xdd xB_173 dX11_laysStreets_74) rfl rfl) <|
  xA0 (ok_iconst (xdd xB_173 dX11_laysStreets_77) rfl rfl (xrg rfl)) <|
  xA0 (ok_istore_n (xdd xB_173 dX11_laysStreets_78) rfl rfl) <|
  xA0 (ok_iload_n (xdd xB_173 dX11_laysStreets_79) rfl rfl) <|
  xA0 (ok_iload_n (xdd xB_173 dX11_laysStreets_80) rfl rfl) <|
  xAB (ok_icmp_ge (xdd xB_173 dX11_laysStreets_81) rfl rfl) <|
  xA0 (ok_iconst (xdd xB_173 dX11_laysStreets_84) rfl rfl (xrg rfl)) <|
  xA0 (ok_istore (xdd xB_173 dX11_laysStreets_85) rfl) <|
  xA0 (ok_iload (xdd xB_173 dX11_laysStreets_87) rfl) <|
  xA0 (ok_iload_n (xdd xB_173 dX11_laysStreets_89) rfl rfl) <|
  xAB (ok_icmp_ge (xdd xB_173 dX11_laysStreets_90) rfl rfl) <|
  xA0 (ok_aload_n (xdd xB_173 dX11_laysStreets_93) rfl rfl) <|
  xA1 (ok_getA (xdd xB_173 dX11_laysStreets_94) rfl (lk_f q1440) rfl) <|
  xAe
theorem xe_173_3 {s0 : State} {A0 : Array Value} {D : va_G} {ta : Nat → ClassId} {l : Launch} : XAll s0 A0 D ta l 173 xk_173_3 :=
  xA0 (ok_bipush (xdd xB_173 dX11_laysStreets_97) rfl rfl (xrg rfl)) <|
  xA0 (ok_iload_n (xdd xB_173 dX11_laysStreets_99) rfl rfl) <|
  xA1 (ok_imul (xdd xB_173 dX11_laysStreets_100) rfl) <|
  xA0 (ok_iload_n (xdd xB_173 dX11_laysStreets_101) rfl rfl) <|
  xA1 (ok_iadd (xdd xB_173 dX11_laysStreets_102) rfl) <|
  xA1 (ok_iaload (xdd xB_173 dX11_laysStreets_103) rfl) <|
  xA0 (ok_aload_n (xdd xB_173 dX11_laysStreets_104) rfl rfl) <|
  xA1 (ok_getA (xdd xB_173 dX11_laysStreets_105) rfl (lk_f q1440) rfl) <|
  xA0 (ok_bipush (xdd xB_173 dX11_laysStreets_108) rfl rfl (xrg rfl)) <|
  xA0 (ok_iload_n (xdd xB_173 dX11_laysStreets_110) rfl rfl) <|
  xA1 (ok_imul (xdd xB_173 dX11_laysStreets_111) rfl) <|
  xA0 (ok_iload (xdd xB_173 dX11_laysStreets_112) rfl) <|
  xA1 (ok_iadd (xdd xB_173 dX11_laysStreets_114) rfl) <|
  xA1 (ok_iaload (xdd xB_173 dX11_laysStreets_115) rfl) <|
  xA1 (ok_iadd (xdd xB_173 dX11_laysStreets_116) rfl) <|
  xA0 (ok_istore (xdd xB_173 dX11_laysStreets_117) rfl) <|
  xA0 (ok_iload (xdd xB_173 dX11_laysStreets_119) rfl) <|
  xA0 (ok_aload_n (xdd xB_173 dX11_laysStreets_121) rfl rfl) <|
  xA1 (ok_getA (xdd xB_173 dX11_laysStreets_122) rfl (lk_f q1440) rfl) <|
  xA0 (ok_bipush (xdd xB_173 dX11_laysStreets_125) rfl rfl (xrg rfl)) <|
  xA0 (ok_iload_n (xdd xB_173 dX11_laysStreets_127) rfl rfl) <|
  xAe
theorem xe_173_4 {s0 : State} {A0 : Array Value} {D : va_G} {ta : Nat → ClassId} {l : Launch} : XAll s0 A0 D ta l 173 xk_173_4 :=
  xA1 (ok_imul (xdd xB_173 dX11_laysStreets_128) rfl) <|
  xA0 (ok_iload (xdd xB_173 dX11_laysStreets_129) rfl) <|
  xA1 (ok_iadd (xdd xB_173 dX11_laysStreets_131) rfl) <|
  xA1 (ok_iaload (xdd xB_173 dX11_laysStreets_132) rfl) <|
  xAB (ok_icmp_ge (xdd xB_173 dX11_laysStreets_133) rfl rfl) <|
  xA0 (ok_aload_n (xdd xB_173 dX11_laysStreets_136) rfl rfl) <|
  xA1 (ok_getA (xdd xB_173 dX11_laysStreets_137) rfl (lk_f q1440) rfl) <|
  xA0 (ok_bipush (xdd xB_173 dX11_laysStreets_140) rfl rfl (xrg rfl)) <|
  xA0 (ok_iload_n (xdd xB_173 dX11_laysStreets_142) rfl rfl) <|
  xA1 (ok_imul (xdd xB_173 dX11_laysStreets_143) rfl) <|
  xA0 (ok_iload (xdd xB_173 dX11_laysStreets_144) rfl) <|
  xA1 (ok_iadd (xdd xB_173 dX11_laysStreets_146) rfl) <|
  xA0 (ok_iload (xdd xB_173 dX11_laysStreets_147) rfl) <|
  xA1 (ok_iastore (xdd xB_173 dX11_laysStreets_149) rfl) <|
  xA1 (ok_iinc (xdd xB_173 dX11_laysStreets_150) rfl) <|
  xA0 (ok_goto (xdd xB_173 dX11_laysStreets_153) rfl) <|
  xA1 (ok_iinc (xdd xB_173 dX11_laysStreets_156) rfl) <|
  xA0 (ok_goto (xdd xB_173 dX11_laysStreets_159) rfl) <|
  xAe
theorem xe_173_5 {s0 : State} {A0 : Array Value} {D : va_G} {ta : Nat → ClassId} {l : Launch} : XAll s0 A0 D ta l 173 xk_173_5 :=
  xA1 (ok_iinc (xdd xB_173 dX11_laysStreets_162) rfl) <|
  xA0 (ok_goto (xdd xB_173 dX11_laysStreets_165) rfl) <|
  xAR (ok_vreturn (xdd xB_173 dX11_laysStreets_168) rfl) <|
  xAe
theorem xe_173 {s0 : State} {A0 : Array Value} {D : va_G} {ta : Nat → ClassId} {l : Launch} : XAllC s0 A0 D ta l 173 xk_173 := ⟨xe_173_0, xe_173_1, xe_173_2, xe_173_3, xe_173_4, xe_173_5, trivial⟩
theorem xe_174_0 {s0 : State} {A0 : Array Value} {D : va_G} {ta : Nat → ClassId} {l : Launch} : XAll s0 A0 D ta l 174 xk_174_0 :=
  xA0 (ok_aload_n (xdd xB_174 dX11_good_0) rfl rfl) <|
  xA0 (ok_iconst (xdd xB_174 dX11_good_1) rfl rfl (xrg rfl)) <|
  xA1 (ok_putI (xdd xB_174 dX11_good_2) rfl (lk_f q1404) rfl xfd_67 (Or.inl rfl)) <|
  xA0 (ok_aload_n (xdd xB_174 dX11_good_5) rfl rfl) <|
  xA0 (ok_iconst (xdd xB_174 dX11_good_6) rfl rfl (xrg rfl)) <|
  xA1 (ok_putI (xdd xB_174 dX11_good_7) rfl (lk_f q1405) rfl xfd_68 (Or.inl rfl)) <|
  xA0 (ok_iload_n (xdd xB_174 dX11_good_10) rfl rfl) <|
  xAR (ok_ireturn (xdd xB_174 dX11_good_11) rfl) <|
  xAe
theorem xe_174 {s0 : State} {A0 : Array Value} {D : va_G} {ta : Nat → ClassId} {l : Launch} : XAllC s0 A0 D ta l 174 xk_174 := ⟨xe_174_0, trivial⟩
theorem xe_175_0 {s0 : State} {A0 : Array Value} {D : va_G} {ta : Nat → ClassId} {l : Launch} : XAll s0 A0 D ta l 175 xk_175_0 :=
  xA0 (ok_aload_n (xdd xB_175 dX11_fault_0) rfl rfl) <|
  xA0 (ok_iconst (xdd xB_175 dX11_fault_1) rfl rfl (xrg rfl)) <|
  xA1 (ok_putI (xdd xB_175 dX11_fault_2) rfl (lk_f q1403) rfl xfd_66 (Or.inl rfl)) <|
  xA0 (ok_aload_n (xdd xB_175 dX11_fault_5) rfl rfl) <|
  xA1 (ok_getI (xdd xB_175 dX11_fault_6) rfl (lk_f q1415) (by decide)) <|
  xAR (ok_ireturn (xdd xB_175 dX11_fault_9) rfl) <|
  xAe
theorem xe_175 {s0 : State} {A0 : Array Value} {D : va_G} {ta : Nat → ClassId} {l : Launch} : XAllC s0 A0 D ta l 175 xk_175 := ⟨xe_175_0, trivial⟩
theorem xe_176_0 {s0 : State} {A0 : Array Value} {D : va_G} {ta : Nat → ClassId} {l : Launch} : XAll s0 A0 D ta l 176 xk_176_0 :=
  xA0 (ok_aload_n (xdd xB_176 dX11_where_0) rfl rfl) <|
  xA0 (ok_iconst (xdd xB_176 dX11_where_1) rfl rfl (xrg rfl)) <|
  xA1 (ok_putI (xdd xB_176 dX11_where_2) rfl (lk_f q1403) rfl xfd_66 (Or.inl rfl)) <|
  xA0 (ok_aload_n (xdd xB_176 dX11_where_5) rfl rfl) <|
  xA1 (ok_getI (xdd xB_176 dX11_where_6) rfl (lk_f q1405) (by decide)) <|
  xAR (ok_ireturn (xdd xB_176 dX11_where_9) rfl) <|
  xAe
theorem xe_176 {s0 : State} {A0 : Array Value} {D : va_G} {ta : Nat → ClassId} {l : Launch} : XAllC s0 A0 D ta l 176 xk_176 := ⟨xe_176_0, trivial⟩
theorem xe_177_0 {s0 : State} {A0 : Array Value} {D : va_G} {ta : Nat → ClassId} {l : Launch} : XAll s0 A0 D ta l 177 xk_177_0 :=
  xA0 (ok_aload_n (xdd xB_177 dX11_house_0) rfl rfl) <|
  xA0 (ok_iconst (xdd xB_177 dX11_house_1) rfl rfl (xrg rfl)) <|
  xA1 (ok_putI (xdd xB_177 dX11_house_2) rfl (lk_f q1403) rfl xfd_66 (Or.inl rfl)) <|
  xA0 (ok_aload_n (xdd xB_177 dX11_house_5) rfl rfl) <|
  xA0 (ok_iload_n (xdd xB_177 dX11_house_6) rfl rfl) <|
  xAK rfl (xC1 (ok_callV (xdd xB_177 dX11_house_7) rfl xq_9 rfl xp_178_1 q1845 q1847 qs78 q124 q1848) xC0) <|
  xAB (ok_if_eq (xdd xB_177 dX11_house_10) rfl rfl) <|
  xA0 (ok_iload_n (xdd xB_177 dX11_house_13) rfl rfl) <|
  xA0 (ok_iconst (xdd xB_177 dX11_house_14) rfl rfl (xrg rfl)) <|
  xA0 (ok_iconst (xdd xB_177 dX11_house_15) rfl rfl (xrg rfl)) <|
  xAK rfl (xC1 (ok_callS (xdd xB_177 dX11_house_16) rfl xp_156_3 q1727 q1728 q124 q1729) xC0) <|
  xAB (ok_if_ne (xdd xB_177 dX11_house_19) rfl rfl) <|
  xA0 (ok_aload_n (xdd xB_177 dX11_house_22) rfl rfl) <|
  xA0 (ok_iconst (xdd xB_177 dX11_house_23) rfl rfl (xrg rfl)) <|
  xAK rfl (xC1 (ok_callV (xdd xB_177 dX11_house_24) rfl xq_9 rfl xp_142_1 q1533 q1535 qs49 q124 q1536) xC0) <|
  xAR (ok_ireturn (xdd xB_177 dX11_house_27) rfl) <|
  xA0 (ok_iload_n (xdd xB_177 dX11_house_28) rfl rfl) <|
  xA0 (ok_tsw (xdd xB_177 dX11_house_29) rfl rfl rfl rfl (np := 0)) <|
  xAe
theorem xe_177_1 {s0 : State} {A0 : Array Value} {D : va_G} {ta : Nat → ClassId} {l : Launch} : XAll s0 A0 D ta l 177 xk_177_1 :=
  xAe
theorem xe_177_2 {s0 : State} {A0 : Array Value} {D : va_G} {ta : Nat → ClassId} {l : Launch} : XAll s0 A0 D ta l 177 xk_177_2 :=
  xA0 (ok_aload_n (xdd xB_177 dX11_house_64) rfl rfl) <|
  xA0 (ok_aload_n (xdd xB_177 dX11_house_65) rfl rfl) <|
  xA1 (ok_getA (xdd xB_177 dX11_house_66) rfl (lk_f q1406) rfl) <|
  xA1 (ok_getA (xdd xB_177 dX11_house_69) rfl (lk_n q1558) rfl) <|
  xA0 (ok_iload_n (xdd xB_177 dX11_house_72) rfl rfl) <|
  xA1 (ok_iaload (xdd xB_177 dX11_house_73) rfl) <|
  xAK rfl (xC1 (ok_callV (xdd xB_177 dX11_house_74) rfl xq_9 rfl xp_174_1 q1829 q1831 qs77 q124 q1832) xC0) <|
  xAR (ok_ireturn (xdd xB_177 dX11_house_77) rfl) <|
  xA0 (ok_aload_n (xdd xB_177 dX11_house_78) rfl rfl) <|
  xA0 (ok_aload_n (xdd xB_177 dX11_house_79) rfl rfl) <|
  xA1 (ok_getA (xdd xB_177 dX11_house_80) rfl (lk_f q1406) rfl) <|
  xA1 (ok_getA (xdd xB_177 dX11_house_83) rfl (lk_n q1560) rfl) <|
  xA0 (ok_iload_n (xdd xB_177 dX11_house_86) rfl rfl) <|
  xA1 (ok_iaload (xdd xB_177 dX11_house_87) rfl) <|
  xAK rfl (xC1 (ok_callV (xdd xB_177 dX11_house_88) rfl xq_9 rfl xp_174_1 q1829 q1831 qs77 q124 q1832) xC0) <|
  xAR (ok_ireturn (xdd xB_177 dX11_house_91) rfl) <|
  xA0 (ok_aload_n (xdd xB_177 dX11_house_92) rfl rfl) <|
  xA0 (ok_aload_n (xdd xB_177 dX11_house_93) rfl rfl) <|
  xA1 (ok_getA (xdd xB_177 dX11_house_94) rfl (lk_f q1406) rfl) <|
  xAe
theorem xe_177_3 {s0 : State} {A0 : Array Value} {D : va_G} {ta : Nat → ClassId} {l : Launch} : XAll s0 A0 D ta l 177 xk_177_3 :=
  xA1 (ok_getA (xdd xB_177 dX11_house_97) rfl (lk_n q1562) rfl) <|
  xA0 (ok_iload_n (xdd xB_177 dX11_house_100) rfl rfl) <|
  xA1 (ok_iaload (xdd xB_177 dX11_house_101) rfl) <|
  xAK rfl (xC1 (ok_callV (xdd xB_177 dX11_house_102) rfl xq_9 rfl xp_174_1 q1829 q1831 qs77 q124 q1832) xC0) <|
  xAR (ok_ireturn (xdd xB_177 dX11_house_105) rfl) <|
  xA0 (ok_aload_n (xdd xB_177 dX11_house_106) rfl rfl) <|
  xA0 (ok_aload_n (xdd xB_177 dX11_house_107) rfl rfl) <|
  xA1 (ok_getA (xdd xB_177 dX11_house_108) rfl (lk_f q1418) rfl) <|
  xA0 (ok_iconst (xdd xB_177 dX11_house_111) rfl rfl (xrg rfl)) <|
  xA0 (ok_iload_n (xdd xB_177 dX11_house_112) rfl rfl) <|
  xA1 (ok_iadd (xdd xB_177 dX11_house_113) rfl) <|
  xA1 (ok_iaload (xdd xB_177 dX11_house_114) rfl) <|
  xAK rfl (xC1 (ok_callV (xdd xB_177 dX11_house_115) rfl xq_9 rfl xp_174_1 q1829 q1831 qs77 q124 q1832) xC0) <|
  xAR (ok_ireturn (xdd xB_177 dX11_house_118) rfl) <|
  xA0 (ok_aload_n (xdd xB_177 dX11_house_119) rfl rfl) <|
  xA0 (ok_aload_n (xdd xB_177 dX11_house_120) rfl rfl) <|
  xA0 (ok_iload_n (xdd xB_177 dX11_house_121) rfl rfl) <|
  xAK rfl (xC1 (ok_callV (xdd xB_177 dX11_house_122) rfl xq_9 rfl xp_179_1 q1849 q1851 qs79 q124 q1852) xC0) <|
  xAK rfl (xC1 (ok_callV (xdd xB_177 dX11_house_125) rfl xq_9 rfl xp_174_1 q1829 q1831 qs77 q124 q1832) xC0) <|
  xAe
theorem xe_177_4 {s0 : State} {A0 : Array Value} {D : va_G} {ta : Nat → ClassId} {l : Launch} : XAll s0 A0 D ta l 177 xk_177_4 :=
  xAR (ok_ireturn (xdd xB_177 dX11_house_128) rfl) <|
  xA0 (ok_aload_n (xdd xB_177 dX11_house_129) rfl rfl) <|
  xA0 (ok_aload_n (xdd xB_177 dX11_house_130) rfl rfl) <|
  xA1 (ok_getA (xdd xB_177 dX11_house_131) rfl (lk_f q1418) rfl) <|
  xA0 (ok_bipush (xdd xB_177 dX11_house_134) rfl rfl (xrg rfl)) <|
  xA1 (ok_iaload (xdd xB_177 dX11_house_136) rfl) <|
  xA0 (ok_iload_n (xdd xB_177 dX11_house_137) rfl rfl) <|
  xAK rfl (xC1 (ok_callS (xdd xB_177 dX11_house_138) rfl xp_180_2 q1853 q1854 q124 q1855) xC0) <|
  xAB (ok_if_eq (xdd xB_177 dX11_house_141) rfl rfl) <|
  xA0 (ok_iconst (xdd xB_177 dX11_house_144) rfl rfl (xrg rfl)) <|
  xA0 (ok_goto (xdd xB_177 dX11_house_145) rfl) <|
  xA0 (ok_iconst (xdd xB_177 dX11_house_148) rfl rfl (xrg rfl)) <|
  xAK rfl (xC1 (ok_callV (xdd xB_177 dX11_house_149) rfl xq_9 rfl xp_174_1 q1829 q1831 qs77 q124 q1832) xC0) <|
  xAR (ok_ireturn (xdd xB_177 dX11_house_152) rfl) <|
  xAe
theorem xe_177 {s0 : State} {A0 : Array Value} {D : va_G} {ta : Nat → ClassId} {l : Launch} : XAllC s0 A0 D ta l 177 xk_177 := ⟨xe_177_0, xe_177_1, xe_177_2, xe_177_3, xe_177_4, trivial⟩
theorem xe_178_0 {s0 : State} {A0 : Array Value} {D : va_G} {ta : Nat → ClassId} {l : Launch} : XAll s0 A0 D ta l 178 xk_178_0 :=
  xA0 (ok_aload_n (xdd xB_178 dX11_isHouse_0) rfl rfl) <|
  xA1 (ok_getA (xdd xB_178 dX11_isHouse_1) rfl (lk_f q1406) rfl) <|
  xAB (ok_ifnull (xdd xB_178 dX11_isHouse_4) rfl rfl) <|
  xA0 (ok_iload_n (xdd xB_178 dX11_isHouse_7) rfl rfl) <|
  xAB (ok_if_lt (xdd xB_178 dX11_isHouse_8) rfl rfl) <|
  xA0 (ok_iload_n (xdd xB_178 dX11_isHouse_11) rfl rfl) <|
  xA0 (ok_aload_n (xdd xB_178 dX11_isHouse_12) rfl rfl) <|
  xA1 (ok_getA (xdd xB_178 dX11_isHouse_13) rfl (lk_f q1406) rfl) <|
  xA1 (ok_getI (xdd xB_178 dX11_isHouse_16) rfl (lk_n q1546) (by decide)) <|
  xAB (ok_icmp_ge (xdd xB_178 dX11_isHouse_19) rfl rfl) <|
  xA0 (ok_iconst (xdd xB_178 dX11_isHouse_22) rfl rfl (xrg rfl)) <|
  xA0 (ok_goto (xdd xB_178 dX11_isHouse_23) rfl) <|
  xA0 (ok_iconst (xdd xB_178 dX11_isHouse_26) rfl rfl (xrg rfl)) <|
  xAR (ok_zreturn (xdd xB_178 dX11_isHouse_27) rfl) <|
  xAe
theorem xe_178 {s0 : State} {A0 : Array Value} {D : va_G} {ta : Nat → ClassId} {l : Launch} : XAllC s0 A0 D ta l 178 xk_178 := ⟨xe_178_0, trivial⟩
theorem xe_179_0 {s0 : State} {A0 : Array Value} {D : va_G} {ta : Nat → ClassId} {l : Launch} : XAll s0 A0 D ta l 179 xk_179_0 :=
  xA0 (ok_iconst (xdd xB_179 dX11_whose_0) rfl rfl (xrg rfl)) <|
  xA0 (ok_istore_n (xdd xB_179 dX11_whose_1) rfl rfl) <|
  xA0 (ok_iload_n (xdd xB_179 dX11_whose_2) rfl rfl) <|
  xA0 (ok_aload_n (xdd xB_179 dX11_whose_3) rfl rfl) <|
  xA1 (ok_getA (xdd xB_179 dX11_whose_4) rfl (lk_f q1406) rfl) <|
  xA1 (ok_getI (xdd xB_179 dX11_whose_7) rfl (lk_n q1546) (by decide)) <|
  xAB (ok_icmp_ge (xdd xB_179 dX11_whose_10) rfl rfl) <|
  xA0 (ok_aload_n (xdd xB_179 dX11_whose_13) rfl rfl) <|
  xA1 (ok_getA (xdd xB_179 dX11_whose_14) rfl (lk_f q1418) rfl) <|
  xA0 (ok_iconst (xdd xB_179 dX11_whose_17) rfl rfl (xrg rfl)) <|
  xA0 (ok_iload_n (xdd xB_179 dX11_whose_18) rfl rfl) <|
  xA1 (ok_iadd (xdd xB_179 dX11_whose_19) rfl) <|
  xA1 (ok_iaload (xdd xB_179 dX11_whose_20) rfl) <|
  xA0 (ok_iload_n (xdd xB_179 dX11_whose_21) rfl rfl) <|
  xAB (ok_icmp_ne (xdd xB_179 dX11_whose_22) rfl rfl) <|
  xA0 (ok_iload_n (xdd xB_179 dX11_whose_25) rfl rfl) <|
  xAR (ok_ireturn (xdd xB_179 dX11_whose_26) rfl) <|
  xA1 (ok_iinc (xdd xB_179 dX11_whose_27) rfl) <|
  xA0 (ok_goto (xdd xB_179 dX11_whose_30) rfl) <|
  xAe
theorem xe_179_1 {s0 : State} {A0 : Array Value} {D : va_G} {ta : Nat → ClassId} {l : Launch} : XAll s0 A0 D ta l 179 xk_179_1 :=
  xA0 (ok_bipush (xdd xB_179 dX11_whose_33) rfl rfl (xrg rfl)) <|
  xAR (ok_ireturn (xdd xB_179 dX11_whose_35) rfl) <|
  xAe
theorem xe_179 {s0 : State} {A0 : Array Value} {D : va_G} {ta : Nat → ClassId} {l : Launch} : XAllC s0 A0 D ta l 179 xk_179 := ⟨xe_179_0, xe_179_1, trivial⟩
theorem xe_180_0 {s0 : State} {A0 : Array Value} {D : va_G} {ta : Nat → ClassId} {l : Launch} : XAll s0 A0 D ta l 180 xk_180_0 :=
  xA0 (ok_iload_n (xdd xB_180 dX11_bit_0) rfl rfl) <|
  xA0 (ok_iload_n (xdd xB_180 dX11_bit_1) rfl rfl) <|
  xA1 (ok_ishr (xdd xB_180 dX11_bit_2) rfl) <|
  xA0 (ok_iconst (xdd xB_180 dX11_bit_3) rfl rfl (xrg rfl)) <|
  xA0 (ok_iand (xdd xB_180 dX11_bit_4) rfl) <|
  xA0 (ok_iconst (xdd xB_180 dX11_bit_5) rfl rfl (xrg rfl)) <|
  xAB (ok_icmp_ne (xdd xB_180 dX11_bit_6) rfl rfl) <|
  xA0 (ok_iconst (xdd xB_180 dX11_bit_9) rfl rfl (xrg rfl)) <|
  xA0 (ok_goto (xdd xB_180 dX11_bit_10) rfl) <|
  xA0 (ok_iconst (xdd xB_180 dX11_bit_13) rfl rfl (xrg rfl)) <|
  xAR (ok_zreturn (xdd xB_180 dX11_bit_14) rfl) <|
  xAe
theorem xe_180 {s0 : State} {A0 : Array Value} {D : va_G} {ta : Nat → ClassId} {l : Launch} : XAllC s0 A0 D ta l 180 xk_180 := ⟨xe_180_0, trivial⟩
theorem xe_181_0 {s0 : State} {A0 : Array Value} {D : va_G} {ta : Nat → ClassId} {l : Launch} : XAll s0 A0 D ta l 181 xk_181_0 :=
  xA0 (ok_aload_n (xdd xB_181 dX11_open_0) rfl rfl) <|
  xA0 (ok_iconst (xdd xB_181 dX11_open_1) rfl rfl (xrg rfl)) <|
  xA1 (ok_putI (xdd xB_181 dX11_open_2) rfl (lk_f q1403) rfl xfd_66 (Or.inl rfl)) <|
  xA0 (ok_aload_n (xdd xB_181 dX11_open_5) rfl rfl) <|
  xA0 (ok_iload_n (xdd xB_181 dX11_open_6) rfl rfl) <|
  xAK rfl (xC1 (ok_callV (xdd xB_181 dX11_open_7) rfl xq_9 rfl xp_178_1 q1845 q1847 qs78 q124 q1848) xC0) <|
  xAB (ok_if_ne (xdd xB_181 dX11_open_10) rfl rfl) <|
  xA0 (ok_aload_n (xdd xB_181 dX11_open_13) rfl rfl) <|
  xA0 (ok_iconst (xdd xB_181 dX11_open_14) rfl rfl (xrg rfl)) <|
  xAK rfl (xC1 (ok_callV (xdd xB_181 dX11_open_15) rfl xq_9 rfl xp_142_1 q1533 q1535 qs49 q124 q1536) xC0) <|
  xAR (ok_ireturn (xdd xB_181 dX11_open_18) rfl) <|
  xA0 (ok_iload_n (xdd xB_181 dX11_open_19) rfl rfl) <|
  xA0 (ok_iconst (xdd xB_181 dX11_open_20) rfl rfl (xrg rfl)) <|
  xA0 (ok_sipush (xdd xB_181 dX11_open_21) rfl rfl (xrg rfl)) <|
  xAK rfl (xC1 (ok_callS (xdd xB_181 dX11_open_24) rfl xp_156_3 q1727 q1728 q124 q1729) xC0) <|
  xAB (ok_if_eq (xdd xB_181 dX11_open_27) rfl rfl) <|
  xA0 (ok_aload_n (xdd xB_181 dX11_open_30) rfl rfl) <|
  xA0 (ok_aload_n (xdd xB_181 dX11_open_31) rfl rfl) <|
  xAe
theorem xe_181_1 {s0 : State} {A0 : Array Value} {D : va_G} {ta : Nat → ClassId} {l : Launch} : XAll s0 A0 D ta l 181 xk_181_1 :=
  xA0 (ok_iload_n (xdd xB_181 dX11_open_32) rfl rfl) <|
  xA0 (ok_iload_n (xdd xB_181 dX11_open_33) rfl rfl) <|
  xAK rfl (xC1 (ok_callV (xdd xB_181 dX11_open_34) rfl xq_9 rfl xp_182_2 q1860 q1862 qs80 q124 q1863) xC0) <|
  xAB (ok_if_eq (xdd xB_181 dX11_open_37) rfl rfl) <|
  xA0 (ok_iconst (xdd xB_181 dX11_open_40) rfl rfl (xrg rfl)) <|
  xA0 (ok_goto (xdd xB_181 dX11_open_41) rfl) <|
  xA0 (ok_iconst (xdd xB_181 dX11_open_44) rfl rfl (xrg rfl)) <|
  xAK rfl (xC1 (ok_callV (xdd xB_181 dX11_open_45) rfl xq_9 rfl xp_174_1 q1829 q1831 qs77 q124 q1832) xC0) <|
  xA0 (ok_goto (xdd xB_181 dX11_open_48) rfl) <|
  xA0 (ok_aload_n (xdd xB_181 dX11_open_51) rfl rfl) <|
  xA0 (ok_iconst (xdd xB_181 dX11_open_52) rfl rfl (xrg rfl)) <|
  xAK rfl (xC1 (ok_callV (xdd xB_181 dX11_open_53) rfl xq_9 rfl xp_142_1 q1533 q1535 qs49 q124 q1536) xC0) <|
  xAR (ok_ireturn (xdd xB_181 dX11_open_56) rfl) <|
  xAe
theorem xe_181 {s0 : State} {A0 : Array Value} {D : va_G} {ta : Nat → ClassId} {l : Launch} : XAllC s0 A0 D ta l 181 xk_181 := ⟨xe_181_0, xe_181_1, trivial⟩
theorem xe_182_0 {s0 : State} {A0 : Array Value} {D : va_G} {ta : Nat → ClassId} {l : Launch} : XAll s0 A0 D ta l 182 xk_182_0 :=
  xA0 (ok_aload_n (xdd xB_182 dX11_isOpenAt_0) rfl rfl) <|
  xA1 (ok_getA (xdd xB_182 dX11_isOpenAt_1) rfl (lk_f q1418) rfl) <|
  xA0 (ok_iconst (xdd xB_182 dX11_isOpenAt_4) rfl rfl (xrg rfl)) <|
  xA0 (ok_iload_n (xdd xB_182 dX11_isOpenAt_5) rfl rfl) <|
  xA1 (ok_iadd (xdd xB_182 dX11_isOpenAt_6) rfl) <|
  xA1 (ok_iaload (xdd xB_182 dX11_isOpenAt_7) rfl) <|
  xA0 (ok_bipush (xdd xB_182 dX11_isOpenAt_8) rfl rfl (xrg rfl)) <|
  xAB (ok_icmp_eq (xdd xB_182 dX11_isOpenAt_10) rfl rfl) <|
  xA0 (ok_aload_n (xdd xB_182 dX11_isOpenAt_13) rfl rfl) <|
  xA1 (ok_getA (xdd xB_182 dX11_isOpenAt_14) rfl (lk_f q1418) rfl) <|
  xA0 (ok_bipush (xdd xB_182 dX11_isOpenAt_17) rfl rfl (xrg rfl)) <|
  xA1 (ok_iaload (xdd xB_182 dX11_isOpenAt_19) rfl) <|
  xA0 (ok_iload_n (xdd xB_182 dX11_isOpenAt_20) rfl rfl) <|
  xAK rfl (xC1 (ok_callS (xdd xB_182 dX11_isOpenAt_21) rfl xp_180_2 q1853 q1854 q124 q1855) xC0) <|
  xAB (ok_if_ne (xdd xB_182 dX11_isOpenAt_24) rfl rfl) <|
  xA0 (ok_aload_n (xdd xB_182 dX11_isOpenAt_27) rfl rfl) <|
  xA1 (ok_getA (xdd xB_182 dX11_isOpenAt_28) rfl (lk_f q1406) rfl) <|
  xA0 (ok_iload_n (xdd xB_182 dX11_isOpenAt_31) rfl rfl) <|
  xAe
theorem xe_182_1 {s0 : State} {A0 : Array Value} {D : va_G} {ta : Nat → ClassId} {l : Launch} : XAll s0 A0 D ta l 182 xk_182_1 :=
  xA0 (ok_iload_n (xdd xB_182 dX11_isOpenAt_32) rfl rfl) <|
  xA0 (ok_sipush (xdd xB_182 dX11_isOpenAt_33) rfl rfl (xrg rfl)) <|
  xA1 (ok_irem (xdd xB_182 dX11_isOpenAt_36) rfl) <|
  xAK rfl (xC1 (ok_callV (xdd xB_182 dX11_isOpenAt_37) rfl xq_15 rfl xp_295_2 q1864 q1865 q1866 q137 q1867) xC0) <|
  xAB (ok_if_eq (xdd xB_182 dX11_isOpenAt_40) rfl rfl) <|
  xA0 (ok_iconst (xdd xB_182 dX11_isOpenAt_43) rfl rfl (xrg rfl)) <|
  xA0 (ok_goto (xdd xB_182 dX11_isOpenAt_44) rfl) <|
  xA0 (ok_iconst (xdd xB_182 dX11_isOpenAt_47) rfl rfl (xrg rfl)) <|
  xAR (ok_zreturn (xdd xB_182 dX11_isOpenAt_48) rfl) <|
  xAe
theorem xe_182 {s0 : State} {A0 : Array Value} {D : va_G} {ta : Nat → ClassId} {l : Launch} : XAllC s0 A0 D ta l 182 xk_182 := ⟨xe_182_0, xe_182_1, trivial⟩
theorem xe_183_0 {s0 : State} {A0 : Array Value} {D : va_G} {ta : Nat → ClassId} {l : Launch} : XAll s0 A0 D ta l 183 xk_183_0 :=
  xA0 (ok_aload_n (xdd xB_183 dX11_street_0) rfl rfl) <|
  xA0 (ok_iconst (xdd xB_183 dX11_street_1) rfl rfl (xrg rfl)) <|
  xA1 (ok_putI (xdd xB_183 dX11_street_2) rfl (lk_f q1403) rfl xfd_66 (Or.inl rfl)) <|
  xA0 (ok_aload_n (xdd xB_183 dX11_street_5) rfl rfl) <|
  xA0 (ok_iload_n (xdd xB_183 dX11_street_6) rfl rfl) <|
  xAK rfl (xC1 (ok_callV (xdd xB_183 dX11_street_7) rfl xq_9 rfl xp_178_1 q1845 q1847 qs78 q124 q1848) xC0) <|
  xAB (ok_if_eq (xdd xB_183 dX11_street_10) rfl rfl) <|
  xA0 (ok_aload_n (xdd xB_183 dX11_street_13) rfl rfl) <|
  xA0 (ok_iload_n (xdd xB_183 dX11_street_14) rfl rfl) <|
  xAK rfl (xC1 (ok_callV (xdd xB_183 dX11_street_15) rfl xq_9 rfl xp_178_1 q1845 q1847 qs78 q124 q1848) xC0) <|
  xAB (ok_if_eq (xdd xB_183 dX11_street_18) rfl rfl) <|
  xA0 (ok_iload_n (xdd xB_183 dX11_street_21) rfl rfl) <|
  xA0 (ok_iload_n (xdd xB_183 dX11_street_22) rfl rfl) <|
  xAB (ok_icmp_ne (xdd xB_183 dX11_street_23) rfl rfl) <|
  xA0 (ok_aload_n (xdd xB_183 dX11_street_26) rfl rfl) <|
  xA0 (ok_iconst (xdd xB_183 dX11_street_27) rfl rfl (xrg rfl)) <|
  xAK rfl (xC1 (ok_callV (xdd xB_183 dX11_street_28) rfl xq_9 rfl xp_142_1 q1533 q1535 qs49 q124 q1536) xC0) <|
  xAR (ok_ireturn (xdd xB_183 dX11_street_31) rfl) <|
  xAe
theorem xe_183_1 {s0 : State} {A0 : Array Value} {D : va_G} {ta : Nat → ClassId} {l : Launch} : XAll s0 A0 D ta l 183 xk_183_1 :=
  xA0 (ok_aload_n (xdd xB_183 dX11_street_32) rfl rfl) <|
  xA0 (ok_aload_n (xdd xB_183 dX11_street_33) rfl rfl) <|
  xA1 (ok_getA (xdd xB_183 dX11_street_34) rfl (lk_f q1406) rfl) <|
  xA1 (ok_getA (xdd xB_183 dX11_street_37) rfl (lk_n q1572) rfl) <|
  xA0 (ok_bipush (xdd xB_183 dX11_street_40) rfl rfl (xrg rfl)) <|
  xA0 (ok_iload_n (xdd xB_183 dX11_street_42) rfl rfl) <|
  xA1 (ok_imul (xdd xB_183 dX11_street_43) rfl) <|
  xA0 (ok_iload_n (xdd xB_183 dX11_street_44) rfl rfl) <|
  xA1 (ok_iadd (xdd xB_183 dX11_street_45) rfl) <|
  xA1 (ok_iaload (xdd xB_183 dX11_street_46) rfl) <|
  xAB (ok_if_ne (xdd xB_183 dX11_street_47) rfl rfl) <|
  xA0 (ok_bipush (xdd xB_183 dX11_street_50) rfl rfl (xrg rfl)) <|
  xA0 (ok_goto (xdd xB_183 dX11_street_52) rfl) <|
  xA0 (ok_aload_n (xdd xB_183 dX11_street_55) rfl rfl) <|
  xA1 (ok_getA (xdd xB_183 dX11_street_56) rfl (lk_f q1406) rfl) <|
  xA1 (ok_getA (xdd xB_183 dX11_street_59) rfl (lk_n q1572) rfl) <|
  xA0 (ok_bipush (xdd xB_183 dX11_street_62) rfl rfl (xrg rfl)) <|
  xAe
theorem xe_183_2 {s0 : State} {A0 : Array Value} {D : va_G} {ta : Nat → ClassId} {l : Launch} : XAll s0 A0 D ta l 183 xk_183_2 :=
  xA0 (ok_iload_n (xdd xB_183 dX11_street_64) rfl rfl) <|
  xA1 (ok_imul (xdd xB_183 dX11_street_65) rfl) <|
  xA0 (ok_iload_n (xdd xB_183 dX11_street_66) rfl rfl) <|
  xA1 (ok_iadd (xdd xB_183 dX11_street_67) rfl) <|
  xA1 (ok_iaload (xdd xB_183 dX11_street_68) rfl) <|
  xAK rfl (xC1 (ok_callV (xdd xB_183 dX11_street_69) rfl xq_9 rfl xp_174_1 q1829 q1831 qs77 q124 q1832) xC0) <|
  xAR (ok_ireturn (xdd xB_183 dX11_street_72) rfl) <|
  xAe
theorem xe_183 {s0 : State} {A0 : Array Value} {D : va_G} {ta : Nat → ClassId} {l : Launch} : XAllC s0 A0 D ta l 183 xk_183 := ⟨xe_183_0, xe_183_1, xe_183_2, trivial⟩
theorem xe_184_0 {s0 : State} {A0 : Array Value} {D : va_G} {ta : Nat → ClassId} {l : Launch} : XAll s0 A0 D ta l 184 xk_184_0 :=
  xA0 (ok_aload_n (xdd xB_184 dX11_person_0) rfl rfl) <|
  xA0 (ok_iconst (xdd xB_184 dX11_person_1) rfl rfl (xrg rfl)) <|
  xA1 (ok_putI (xdd xB_184 dX11_person_2) rfl (lk_f q1403) rfl xfd_66 (Or.inl rfl)) <|
  xA0 (ok_aload_n (xdd xB_184 dX11_person_5) rfl rfl) <|
  xA0 (ok_iload_n (xdd xB_184 dX11_person_6) rfl rfl) <|
  xAK rfl (xC1 (ok_callV (xdd xB_184 dX11_person_7) rfl xq_9 rfl xp_185_1 q1878 q1880 qs81 q124 q1881) xC0) <|
  xAB (ok_if_eq (xdd xB_184 dX11_person_10) rfl rfl) <|
  xA0 (ok_iload_n (xdd xB_184 dX11_person_13) rfl rfl) <|
  xA0 (ok_iconst (xdd xB_184 dX11_person_14) rfl rfl (xrg rfl)) <|
  xA0 (ok_iconst (xdd xB_184 dX11_person_15) rfl rfl (xrg rfl)) <|
  xAK rfl (xC1 (ok_callS (xdd xB_184 dX11_person_16) rfl xp_156_3 q1727 q1728 q124 q1729) xC0) <|
  xAB (ok_if_ne (xdd xB_184 dX11_person_19) rfl rfl) <|
  xA0 (ok_aload_n (xdd xB_184 dX11_person_22) rfl rfl) <|
  xA0 (ok_iconst (xdd xB_184 dX11_person_23) rfl rfl (xrg rfl)) <|
  xAK rfl (xC1 (ok_callV (xdd xB_184 dX11_person_24) rfl xq_9 rfl xp_142_1 q1533 q1535 qs49 q124 q1536) xC0) <|
  xAR (ok_ireturn (xdd xB_184 dX11_person_27) rfl) <|
  xA0 (ok_aload_n (xdd xB_184 dX11_person_28) rfl rfl) <|
  xA0 (ok_iload_n (xdd xB_184 dX11_person_29) rfl rfl) <|
  xAB (ok_if_ne (xdd xB_184 dX11_person_30) rfl rfl) <|
  xAe
theorem xe_184_1 {s0 : State} {A0 : Array Value} {D : va_G} {ta : Nat → ClassId} {l : Launch} : XAll s0 A0 D ta l 184 xk_184_1 :=
  xA0 (ok_aload_n (xdd xB_184 dX11_person_33) rfl rfl) <|
  xA1 (ok_getA (xdd xB_184 dX11_person_34) rfl (lk_f q1406) rfl) <|
  xA1 (ok_getA (xdd xB_184 dX11_person_37) rfl (lk_n q1574) rfl) <|
  xA0 (ok_iload_n (xdd xB_184 dX11_person_40) rfl rfl) <|
  xA1 (ok_iaload (xdd xB_184 dX11_person_41) rfl) <|
  xA0 (ok_goto (xdd xB_184 dX11_person_42) rfl) <|
  xA0 (ok_iload_n (xdd xB_184 dX11_person_45) rfl rfl) <|
  xA0 (ok_iconst (xdd xB_184 dX11_person_46) rfl rfl (xrg rfl)) <|
  xAB (ok_icmp_ne (xdd xB_184 dX11_person_47) rfl rfl) <|
  xA0 (ok_aload_n (xdd xB_184 dX11_person_50) rfl rfl) <|
  xA1 (ok_getA (xdd xB_184 dX11_person_51) rfl (lk_f q1418) rfl) <|
  xA0 (ok_bipush (xdd xB_184 dX11_person_54) rfl rfl (xrg rfl)) <|
  xA0 (ok_iload_n (xdd xB_184 dX11_person_56) rfl rfl) <|
  xA1 (ok_iadd (xdd xB_184 dX11_person_57) rfl) <|
  xA1 (ok_iaload (xdd xB_184 dX11_person_58) rfl) <|
  xA0 (ok_goto (xdd xB_184 dX11_person_59) rfl) <|
  xA0 (ok_aload_n (xdd xB_184 dX11_person_62) rfl rfl) <|
  xA1 (ok_getA (xdd xB_184 dX11_person_63) rfl (lk_f q1418) rfl) <|
  xAe
theorem xe_184_2 {s0 : State} {A0 : Array Value} {D : va_G} {ta : Nat → ClassId} {l : Launch} : XAll s0 A0 D ta l 184 xk_184_2 :=
  xA0 (ok_bipush (xdd xB_184 dX11_person_66) rfl rfl (xrg rfl)) <|
  xA0 (ok_iload_n (xdd xB_184 dX11_person_68) rfl rfl) <|
  xA1 (ok_iadd (xdd xB_184 dX11_person_69) rfl) <|
  xA1 (ok_iaload (xdd xB_184 dX11_person_70) rfl) <|
  xAK rfl (xC1 (ok_callV (xdd xB_184 dX11_person_71) rfl xq_9 rfl xp_174_1 q1829 q1831 qs77 q124 q1832) xC0) <|
  xAR (ok_ireturn (xdd xB_184 dX11_person_74) rfl) <|
  xAe
theorem xe_184 {s0 : State} {A0 : Array Value} {D : va_G} {ta : Nat → ClassId} {l : Launch} : XAllC s0 A0 D ta l 184 xk_184 := ⟨xe_184_0, xe_184_1, xe_184_2, trivial⟩
theorem xe_185_0 {s0 : State} {A0 : Array Value} {D : va_G} {ta : Nat → ClassId} {l : Launch} : XAll s0 A0 D ta l 185 xk_185_0 :=
  xA0 (ok_aload_n (xdd xB_185 dX11_isPerson_0) rfl rfl) <|
  xA1 (ok_getA (xdd xB_185 dX11_isPerson_1) rfl (lk_f q1406) rfl) <|
  xAB (ok_ifnull (xdd xB_185 dX11_isPerson_4) rfl rfl) <|
  xA0 (ok_iload_n (xdd xB_185 dX11_isPerson_7) rfl rfl) <|
  xAB (ok_if_lt (xdd xB_185 dX11_isPerson_8) rfl rfl) <|
  xA0 (ok_iload_n (xdd xB_185 dX11_isPerson_11) rfl rfl) <|
  xA0 (ok_aload_n (xdd xB_185 dX11_isPerson_12) rfl rfl) <|
  xA1 (ok_getA (xdd xB_185 dX11_isPerson_13) rfl (lk_f q1406) rfl) <|
  xA1 (ok_getI (xdd xB_185 dX11_isPerson_16) rfl (lk_n q1550) (by decide)) <|
  xAB (ok_icmp_ge (xdd xB_185 dX11_isPerson_19) rfl rfl) <|
  xA0 (ok_iconst (xdd xB_185 dX11_isPerson_22) rfl rfl (xrg rfl)) <|
  xA0 (ok_goto (xdd xB_185 dX11_isPerson_23) rfl) <|
  xA0 (ok_iconst (xdd xB_185 dX11_isPerson_26) rfl rfl (xrg rfl)) <|
  xAR (ok_zreturn (xdd xB_185 dX11_isPerson_27) rfl) <|
  xAe
theorem xe_185 {s0 : State} {A0 : Array Value} {D : va_G} {ta : Nat → ClassId} {l : Launch} : XAllC s0 A0 D ta l 185 xk_185 := ⟨xe_185_0, trivial⟩
theorem xe_186_0 {s0 : State} {A0 : Array Value} {D : va_G} {ta : Nat → ClassId} {l : Launch} : XAll s0 A0 D ta l 186 xk_186_0 :=
  xA0 (ok_aload_n (xdd xB_186 dX11_candle_0) rfl rfl) <|
  xA0 (ok_iconst (xdd xB_186 dX11_candle_1) rfl rfl (xrg rfl)) <|
  xA1 (ok_putI (xdd xB_186 dX11_candle_2) rfl (lk_f q1403) rfl xfd_66 (Or.inl rfl)) <|
  xA0 (ok_aload_n (xdd xB_186 dX11_candle_5) rfl rfl) <|
  xA0 (ok_iload_n (xdd xB_186 dX11_candle_6) rfl rfl) <|
  xAK rfl (xC1 (ok_callV (xdd xB_186 dX11_candle_7) rfl xq_9 rfl xp_178_1 q1845 q1847 qs78 q124 q1848) xC0) <|
  xAB (ok_if_ne (xdd xB_186 dX11_candle_10) rfl rfl) <|
  xA0 (ok_aload_n (xdd xB_186 dX11_candle_13) rfl rfl) <|
  xA0 (ok_iconst (xdd xB_186 dX11_candle_14) rfl rfl (xrg rfl)) <|
  xAK rfl (xC1 (ok_callV (xdd xB_186 dX11_candle_15) rfl xq_9 rfl xp_142_1 q1533 q1535 qs49 q124 q1536) xC0) <|
  xAR (ok_ireturn (xdd xB_186 dX11_candle_18) rfl) <|
  xA0 (ok_iconst (xdd xB_186 dX11_candle_19) rfl rfl (xrg rfl)) <|
  xA0 (ok_istore_n (xdd xB_186 dX11_candle_20) rfl rfl) <|
  xA0 (ok_aload_n (xdd xB_186 dX11_candle_21) rfl rfl) <|
  xA1 (ok_getA (xdd xB_186 dX11_candle_22) rfl (lk_f q1418) rfl) <|
  xA0 (ok_iconst (xdd xB_186 dX11_candle_25) rfl rfl (xrg rfl)) <|
  xA0 (ok_iload_n (xdd xB_186 dX11_candle_26) rfl rfl) <|
  xA1 (ok_iadd (xdd xB_186 dX11_candle_27) rfl) <|
  xA1 (ok_iaload (xdd xB_186 dX11_candle_28) rfl) <|
  xA0 (ok_istore_n (xdd xB_186 dX11_candle_29) rfl rfl) <|
  xA0 (ok_iload_n (xdd xB_186 dX11_candle_30) rfl rfl) <|
  xA0 (ok_bipush (xdd xB_186 dX11_candle_31) rfl rfl (xrg rfl)) <|
  xAe
theorem xe_186_1 {s0 : State} {A0 : Array Value} {D : va_G} {ta : Nat → ClassId} {l : Launch} : XAll s0 A0 D ta l 186 xk_186_1 :=
  xAB (ok_icmp_eq (xdd xB_186 dX11_candle_33) rfl rfl) <|
  xA0 (ok_iload_n (xdd xB_186 dX11_candle_36) rfl rfl) <|
  xA0 (ok_iload_n (xdd xB_186 dX11_candle_37) rfl rfl) <|
  xAB (ok_icmp_eq (xdd xB_186 dX11_candle_38) rfl rfl) <|
  xA0 (ok_aload_n (xdd xB_186 dX11_candle_41) rfl rfl) <|
  xA1 (ok_getA (xdd xB_186 dX11_candle_42) rfl (lk_f q1418) rfl) <|
  xA0 (ok_iconst (xdd xB_186 dX11_candle_45) rfl rfl (xrg rfl)) <|
  xA0 (ok_iload_n (xdd xB_186 dX11_candle_46) rfl rfl) <|
  xA1 (ok_iadd (xdd xB_186 dX11_candle_47) rfl) <|
  xA1 (ok_iaload (xdd xB_186 dX11_candle_48) rfl) <|
  xA0 (ok_istore_n (xdd xB_186 dX11_candle_49) rfl rfl) <|
  xA1 (ok_iinc (xdd xB_186 dX11_candle_50) rfl) <|
  xA0 (ok_goto (xdd xB_186 dX11_candle_53) rfl) <|
  xA0 (ok_aload_n (xdd xB_186 dX11_candle_56) rfl rfl) <|
  xA0 (ok_iload_n (xdd xB_186 dX11_candle_57) rfl rfl) <|
  xA0 (ok_bipush (xdd xB_186 dX11_candle_58) rfl rfl (xrg rfl)) <|
  xAB (ok_icmp_ne (xdd xB_186 dX11_candle_60) rfl rfl) <|
  xA0 (ok_bipush (xdd xB_186 dX11_candle_63) rfl rfl (xrg rfl)) <|
  xAe
theorem xe_186_2 {s0 : State} {A0 : Array Value} {D : va_G} {ta : Nat → ClassId} {l : Launch} : XAll s0 A0 D ta l 186 xk_186_2 :=
  xA0 (ok_goto (xdd xB_186 dX11_candle_65) rfl) <|
  xA0 (ok_iload_n (xdd xB_186 dX11_candle_68) rfl rfl) <|
  xAK rfl (xC1 (ok_callV (xdd xB_186 dX11_candle_69) rfl xq_9 rfl xp_174_1 q1829 q1831 qs77 q124 q1832) xC0) <|
  xAR (ok_ireturn (xdd xB_186 dX11_candle_72) rfl) <|
  xAe
theorem xe_186 {s0 : State} {A0 : Array Value} {D : va_G} {ta : Nat → ClassId} {l : Launch} : XAllC s0 A0 D ta l 186 xk_186 := ⟨xe_186_0, xe_186_1, xe_186_2, trivial⟩
theorem xe_187_0 {s0 : State} {A0 : Array Value} {D : va_G} {ta : Nat → ClassId} {l : Launch} : XAll s0 A0 D ta l 187 xk_187_0 :=
  xA0 (ok_aload_n (xdd xB_187 dX11_candleAt_0) rfl rfl) <|
  xA0 (ok_iconst (xdd xB_187 dX11_candleAt_1) rfl rfl (xrg rfl)) <|
  xA1 (ok_putI (xdd xB_187 dX11_candleAt_2) rfl (lk_f q1403) rfl xfd_66 (Or.inl rfl)) <|
  xA0 (ok_aload_n (xdd xB_187 dX11_candleAt_5) rfl rfl) <|
  xA0 (ok_iload_n (xdd xB_187 dX11_candleAt_6) rfl rfl) <|
  xAK rfl (xC1 (ok_callV (xdd xB_187 dX11_candleAt_7) rfl xq_9 rfl xp_178_1 q1845 q1847 qs78 q124 q1848) xC0) <|
  xAB (ok_if_ne (xdd xB_187 dX11_candleAt_10) rfl rfl) <|
  xA0 (ok_aload_n (xdd xB_187 dX11_candleAt_13) rfl rfl) <|
  xA0 (ok_iconst (xdd xB_187 dX11_candleAt_14) rfl rfl (xrg rfl)) <|
  xAK rfl (xC1 (ok_callV (xdd xB_187 dX11_candleAt_15) rfl xq_9 rfl xp_142_1 q1533 q1535 qs49 q124 q1536) xC0) <|
  xAR (ok_ireturn (xdd xB_187 dX11_candleAt_18) rfl) <|
  xA0 (ok_iload_n (xdd xB_187 dX11_candleAt_19) rfl rfl) <|
  xA0 (ok_iconst (xdd xB_187 dX11_candleAt_20) rfl rfl (xrg rfl)) <|
  xA0 (ok_bipush (xdd xB_187 dX11_candleAt_21) rfl rfl (xrg rfl)) <|
  xAK rfl (xC1 (ok_callS (xdd xB_187 dX11_candleAt_23) rfl xp_156_3 q1727 q1728 q124 q1729) xC0) <|
  xAB (ok_if_ne (xdd xB_187 dX11_candleAt_26) rfl rfl) <|
  xA0 (ok_aload_n (xdd xB_187 dX11_candleAt_29) rfl rfl) <|
  xA0 (ok_iconst (xdd xB_187 dX11_candleAt_30) rfl rfl (xrg rfl)) <|
  xAK rfl (xC1 (ok_callV (xdd xB_187 dX11_candleAt_31) rfl xq_9 rfl xp_142_1 q1533 q1535 qs49 q124 q1536) xC0) <|
  xAe
theorem xe_187_1 {s0 : State} {A0 : Array Value} {D : va_G} {ta : Nat → ClassId} {l : Launch} : XAll s0 A0 D ta l 187 xk_187_1 :=
  xAR (ok_ireturn (xdd xB_187 dX11_candleAt_34) rfl) <|
  xA0 (ok_iload_n (xdd xB_187 dX11_candleAt_35) rfl rfl) <|
  xA0 (ok_istore_n (xdd xB_187 dX11_candleAt_36) rfl rfl) <|
  xA0 (ok_iconst (xdd xB_187 dX11_candleAt_37) rfl rfl (xrg rfl)) <|
  xA0 (ok_istore (xdd xB_187 dX11_candleAt_38) rfl) <|
  xA0 (ok_iload (xdd xB_187 dX11_candleAt_40) rfl) <|
  xA0 (ok_iload_n (xdd xB_187 dX11_candleAt_42) rfl rfl) <|
  xAB (ok_icmp_ge (xdd xB_187 dX11_candleAt_43) rfl rfl) <|
  xA0 (ok_iload_n (xdd xB_187 dX11_candleAt_46) rfl rfl) <|
  xA0 (ok_bipush (xdd xB_187 dX11_candleAt_47) rfl rfl (xrg rfl)) <|
  xAB (ok_icmp_eq (xdd xB_187 dX11_candleAt_49) rfl rfl) <|
  xA0 (ok_aload_n (xdd xB_187 dX11_candleAt_52) rfl rfl) <|
  xA1 (ok_getA (xdd xB_187 dX11_candleAt_53) rfl (lk_f q1418) rfl) <|
  xA0 (ok_iconst (xdd xB_187 dX11_candleAt_56) rfl rfl (xrg rfl)) <|
  xA0 (ok_iload_n (xdd xB_187 dX11_candleAt_57) rfl rfl) <|
  xA1 (ok_iadd (xdd xB_187 dX11_candleAt_58) rfl) <|
  xA1 (ok_iaload (xdd xB_187 dX11_candleAt_59) rfl) <|
  xA0 (ok_istore_n (xdd xB_187 dX11_candleAt_60) rfl rfl) <|
  xA1 (ok_iinc (xdd xB_187 dX11_candleAt_61) rfl) <|
  xAe
theorem xe_187_2 {s0 : State} {A0 : Array Value} {D : va_G} {ta : Nat → ClassId} {l : Launch} : XAll s0 A0 D ta l 187 xk_187_2 :=
  xA0 (ok_goto (xdd xB_187 dX11_candleAt_64) rfl) <|
  xA0 (ok_aload_n (xdd xB_187 dX11_candleAt_67) rfl rfl) <|
  xA0 (ok_iload_n (xdd xB_187 dX11_candleAt_68) rfl rfl) <|
  xAK rfl (xC1 (ok_callV (xdd xB_187 dX11_candleAt_69) rfl xq_9 rfl xp_174_1 q1829 q1831 qs77 q124 q1832) xC0) <|
  xAR (ok_ireturn (xdd xB_187 dX11_candleAt_72) rfl) <|
  xAe
theorem xe_187 {s0 : State} {A0 : Array Value} {D : va_G} {ta : Nat → ClassId} {l : Launch} : XAllC s0 A0 D ta l 187 xk_187 := ⟨xe_187_0, xe_187_1, xe_187_2, trivial⟩
theorem xe_188_0 {s0 : State} {A0 : Array Value} {D : va_G} {ta : Nat → ClassId} {l : Launch} : XAll s0 A0 D ta l 188 xk_188_0 :=
  xA0 (ok_aload_n (xdd xB_188 dX11_mutual_0) rfl rfl) <|
  xA0 (ok_iconst (xdd xB_188 dX11_mutual_1) rfl rfl (xrg rfl)) <|
  xA1 (ok_putI (xdd xB_188 dX11_mutual_2) rfl (lk_f q1403) rfl xfd_66 (Or.inl rfl)) <|
  xA0 (ok_aload_n (xdd xB_188 dX11_mutual_5) rfl rfl) <|
  xA1 (ok_getA (xdd xB_188 dX11_mutual_6) rfl (lk_f q1406) rfl) <|
  xAB (ok_ifnonnull (xdd xB_188 dX11_mutual_9) rfl rfl) <|
  xA0 (ok_aload_n (xdd xB_188 dX11_mutual_12) rfl rfl) <|
  xA0 (ok_iconst (xdd xB_188 dX11_mutual_13) rfl rfl (xrg rfl)) <|
  xAK rfl (xC1 (ok_callV (xdd xB_188 dX11_mutual_14) rfl xq_9 rfl xp_142_1 q1533 q1535 qs49 q124 q1536) xC0) <|
  xAR (ok_ireturn (xdd xB_188 dX11_mutual_17) rfl) <|
  xA0 (ok_aload_n (xdd xB_188 dX11_mutual_18) rfl rfl) <|
  xAK rfl (xC1 (ok_callV (xdd xB_188 dX11_mutual_19) rfl xq_9 rfl xp_189_0 q1894 q1896 qs82 q124 q1897) xC0) <|
  xA0 (ok_aload_n (xdd xB_188 dX11_mutual_22) rfl rfl) <|
  xA0 (ok_aload_n (xdd xB_188 dX11_mutual_23) rfl rfl) <|
  xA1 (ok_getA (xdd xB_188 dX11_mutual_24) rfl (lk_f q1423) rfl) <|
  xAK rfl (xC1 (ok_callS (xdd xB_188 dX11_mutual_27) rfl xp_190_1 q1898 q1899 q124 q1900) xC0) <|
  xAK rfl (xC1 (ok_callV (xdd xB_188 dX11_mutual_30) rfl xq_9 rfl xp_174_1 q1829 q1831 qs77 q124 q1832) xC0) <|
  xAe
theorem xe_188_1 {s0 : State} {A0 : Array Value} {D : va_G} {ta : Nat → ClassId} {l : Launch} : XAll s0 A0 D ta l 188 xk_188_1 :=
  xAR (ok_ireturn (xdd xB_188 dX11_mutual_33) rfl) <|
  xAe
theorem xe_188 {s0 : State} {A0 : Array Value} {D : va_G} {ta : Nat → ClassId} {l : Launch} : XAllC s0 A0 D ta l 188 xk_188 := ⟨xe_188_0, xe_188_1, trivial⟩
theorem xe_189_0 {s0 : State} {A0 : Array Value} {D : va_G} {ta : Nat → ClassId} {l : Launch} : XAll s0 A0 D ta l 189 xk_189_0 :=
  xA0 (ok_iconst (xdd xB_189 dX11_tries_0) rfl rfl (xrg rfl)) <|
  xA0 (ok_istore_n (xdd xB_189 dX11_tries_1) rfl rfl) <|
  xA0 (ok_iload_n (xdd xB_189 dX11_tries_2) rfl rfl) <|
  xA0 (ok_bipush (xdd xB_189 dX11_tries_3) rfl rfl (xrg rfl)) <|
  xAB (ok_icmp_ge (xdd xB_189 dX11_tries_5) rfl rfl) <|
  xA0 (ok_aload_n (xdd xB_189 dX11_tries_8) rfl rfl) <|
  xA1 (ok_getA (xdd xB_189 dX11_tries_9) rfl (lk_f q1423) rfl) <|
  xA0 (ok_iload_n (xdd xB_189 dX11_tries_12) rfl rfl) <|
  xA0 (ok_aload_n (xdd xB_189 dX11_tries_13) rfl rfl) <|
  xA1 (ok_getA (xdd xB_189 dX11_tries_14) rfl (lk_f q1418) rfl) <|
  xA0 (ok_iconst (xdd xB_189 dX11_tries_17) rfl rfl (xrg rfl)) <|
  xA0 (ok_iload_n (xdd xB_189 dX11_tries_18) rfl rfl) <|
  xA1 (ok_iadd (xdd xB_189 dX11_tries_19) rfl) <|
  xA1 (ok_iaload (xdd xB_189 dX11_tries_20) rfl) <|
  xA1 (ok_iastore (xdd xB_189 dX11_tries_21) rfl) <|
  xA1 (ok_iinc (xdd xB_189 dX11_tries_22) rfl) <|
  xA0 (ok_goto (xdd xB_189 dX11_tries_25) rfl) <|
  xAR (ok_vreturn (xdd xB_189 dX11_tries_28) rfl) <|
  xAe
theorem xe_189 {s0 : State} {A0 : Array Value} {D : va_G} {ta : Nat → ClassId} {l : Launch} : XAllC s0 A0 D ta l 189 xk_189 := ⟨xe_189_0, trivial⟩
theorem xe_190_0 {s0 : State} {A0 : Array Value} {D : va_G} {ta : Nat → ClassId} {l : Launch} : XAll s0 A0 D ta l 190 xk_190_0 :=
  xA0 (ok_iconst (xdd xB_190 dX11_pairedIn_0) rfl rfl (xrg rfl)) <|
  xA0 (ok_istore_n (xdd xB_190 dX11_pairedIn_1) rfl rfl) <|
  xA0 (ok_iconst (xdd xB_190 dX11_pairedIn_2) rfl rfl (xrg rfl)) <|
  xA0 (ok_istore_n (xdd xB_190 dX11_pairedIn_3) rfl rfl) <|
  xA0 (ok_iload_n (xdd xB_190 dX11_pairedIn_4) rfl rfl) <|
  xA0 (ok_bipush (xdd xB_190 dX11_pairedIn_5) rfl rfl (xrg rfl)) <|
  xAB (ok_icmp_ge (xdd xB_190 dX11_pairedIn_7) rfl rfl) <|
  xA0 (ok_iload_n (xdd xB_190 dX11_pairedIn_10) rfl rfl) <|
  xA0 (ok_aload_n (xdd xB_190 dX11_pairedIn_11) rfl rfl) <|
  xA0 (ok_iload_n (xdd xB_190 dX11_pairedIn_12) rfl rfl) <|
  xA1 (ok_iaload (xdd xB_190 dX11_pairedIn_13) rfl) <|
  xA0 (ok_bipush (xdd xB_190 dX11_pairedIn_14) rfl rfl (xrg rfl)) <|
  xAB (ok_icmp_eq (xdd xB_190 dX11_pairedIn_16) rfl rfl) <|
  xA0 (ok_aload_n (xdd xB_190 dX11_pairedIn_19) rfl rfl) <|
  xA0 (ok_aload_n (xdd xB_190 dX11_pairedIn_20) rfl rfl) <|
  xA0 (ok_iload_n (xdd xB_190 dX11_pairedIn_21) rfl rfl) <|
  xA1 (ok_iaload (xdd xB_190 dX11_pairedIn_22) rfl) <|
  xA1 (ok_iaload (xdd xB_190 dX11_pairedIn_23) rfl) <|
  xA0 (ok_iload_n (xdd xB_190 dX11_pairedIn_24) rfl rfl) <|
  xAB (ok_icmp_ne (xdd xB_190 dX11_pairedIn_25) rfl rfl) <|
  xA0 (ok_iconst (xdd xB_190 dX11_pairedIn_28) rfl rfl (xrg rfl)) <|
  xA0 (ok_iload_n (xdd xB_190 dX11_pairedIn_29) rfl rfl) <|
  xA1 (ok_ishl (xdd xB_190 dX11_pairedIn_30) rfl) <|
  xA0 (ok_goto (xdd xB_190 dX11_pairedIn_31) rfl) <|
  xAe
theorem xe_190_1 {s0 : State} {A0 : Array Value} {D : va_G} {ta : Nat → ClassId} {l : Launch} : XAll s0 A0 D ta l 190 xk_190_1 :=
  xA0 (ok_iconst (xdd xB_190 dX11_pairedIn_34) rfl rfl (xrg rfl)) <|
  xA0 (ok_ior (xdd xB_190 dX11_pairedIn_35) rfl) <|
  xA0 (ok_istore_n (xdd xB_190 dX11_pairedIn_36) rfl rfl) <|
  xA1 (ok_iinc (xdd xB_190 dX11_pairedIn_37) rfl) <|
  xA0 (ok_goto (xdd xB_190 dX11_pairedIn_40) rfl) <|
  xA0 (ok_iload_n (xdd xB_190 dX11_pairedIn_43) rfl rfl) <|
  xAR (ok_ireturn (xdd xB_190 dX11_pairedIn_44) rfl) <|
  xAe
theorem xe_190 {s0 : State} {A0 : Array Value} {D : va_G} {ta : Nat → ClassId} {l : Launch} : XAllC s0 A0 D ta l 190 xk_190 := ⟨xe_190_0, xe_190_1, trivial⟩
theorem xe_191_0 {s0 : State} {A0 : Array Value} {D : va_G} {ta : Nat → ClassId} {l : Launch} : XAll s0 A0 D ta l 191 xk_191_0 :=
  xA0 (ok_aload_n (xdd xB_191 dX11_judge_0) rfl rfl) <|
  xA0 (ok_iconst (xdd xB_191 dX11_judge_1) rfl rfl (xrg rfl)) <|
  xA1 (ok_putI (xdd xB_191 dX11_judge_2) rfl (lk_f q1403) rfl xfd_66 (Or.inl rfl)) <|
  xA0 (ok_aload_n (xdd xB_191 dX11_judge_5) rfl rfl) <|
  xA1 (ok_getA (xdd xB_191 dX11_judge_6) rfl (lk_f q1406) rfl) <|
  xAB (ok_ifnonnull (xdd xB_191 dX11_judge_9) rfl rfl) <|
  xA0 (ok_aload_n (xdd xB_191 dX11_judge_12) rfl rfl) <|
  xA0 (ok_iconst (xdd xB_191 dX11_judge_13) rfl rfl (xrg rfl)) <|
  xAK rfl (xC1 (ok_callV (xdd xB_191 dX11_judge_14) rfl xq_9 rfl xp_142_1 q1533 q1535 qs49 q124 q1536) xC0) <|
  xAR (ok_ireturn (xdd xB_191 dX11_judge_17) rfl) <|
  xA0 (ok_iconst (xdd xB_191 dX11_judge_18) rfl rfl (xrg rfl)) <|
  xA0 (ok_istore_n (xdd xB_191 dX11_judge_19) rfl rfl) <|
  xA0 (ok_iload_n (xdd xB_191 dX11_judge_20) rfl rfl) <|
  xA0 (ok_aload_n (xdd xB_191 dX11_judge_21) rfl rfl) <|
  xA1 (ok_getA (xdd xB_191 dX11_judge_22) rfl (lk_f q1406) rfl) <|
  xA1 (ok_getI (xdd xB_191 dX11_judge_25) rfl (lk_n q1552) (by decide)) <|
  xAB (ok_icmp_ge (xdd xB_191 dX11_judge_28) rfl rfl) <|
  xA0 (ok_aload_n (xdd xB_191 dX11_judge_31) rfl rfl) <|
  xAe
theorem xe_191_1 {s0 : State} {A0 : Array Value} {D : va_G} {ta : Nat → ClassId} {l : Launch} : XAll s0 A0 D ta l 191 xk_191_1 :=
  xA1 (ok_getA (xdd xB_191 dX11_judge_32) rfl (lk_f q1418) rfl) <|
  xA0 (ok_iconst (xdd xB_191 dX11_judge_35) rfl rfl (xrg rfl)) <|
  xA0 (ok_aload_n (xdd xB_191 dX11_judge_36) rfl rfl) <|
  xA1 (ok_getA (xdd xB_191 dX11_judge_37) rfl (lk_f q1406) rfl) <|
  xA1 (ok_getA (xdd xB_191 dX11_judge_40) rfl (lk_n q1578) rfl) <|
  xA0 (ok_iload_n (xdd xB_191 dX11_judge_43) rfl rfl) <|
  xA1 (ok_iaload (xdd xB_191 dX11_judge_44) rfl) <|
  xA1 (ok_iadd (xdd xB_191 dX11_judge_45) rfl) <|
  xA1 (ok_iaload (xdd xB_191 dX11_judge_46) rfl) <|
  xA0 (ok_istore_n (xdd xB_191 dX11_judge_47) rfl rfl) <|
  xA0 (ok_iload_n (xdd xB_191 dX11_judge_48) rfl rfl) <|
  xA0 (ok_bipush (xdd xB_191 dX11_judge_49) rfl rfl (xrg rfl)) <|
  xAB (ok_icmp_eq (xdd xB_191 dX11_judge_51) rfl rfl) <|
  xA0 (ok_aload_n (xdd xB_191 dX11_judge_54) rfl rfl) <|
  xA1 (ok_getA (xdd xB_191 dX11_judge_55) rfl (lk_f q1406) rfl) <|
  xA1 (ok_getA (xdd xB_191 dX11_judge_58) rfl (lk_n q1570) rfl) <|
  xA0 (ok_iload_n (xdd xB_191 dX11_judge_61) rfl rfl) <|
  xA1 (ok_laload (xdd xB_191 dX11_judge_62) rfl) <|
  xA0 (ok_aload_n (xdd xB_191 dX11_judge_63) rfl rfl) <|
  xAe
theorem xe_191_2 {s0 : State} {A0 : Array Value} {D : va_G} {ta : Nat → ClassId} {l : Launch} : XAll s0 A0 D ta l 191 xk_191_2 :=
  xA1 (ok_getA (xdd xB_191 dX11_judge_64) rfl (lk_f q1406) rfl) <|
  xA1 (ok_getA (xdd xB_191 dX11_judge_67) rfl (lk_n q1584) rfl) <|
  xA0 (ok_iload_n (xdd xB_191 dX11_judge_70) rfl rfl) <|
  xA1 (ok_laload (xdd xB_191 dX11_judge_71) rfl) <|
  xA0 (ok_lcmp (xdd xB_191 dX11_judge_72) rfl) <|
  xAB (ok_if_eq (xdd xB_191 dX11_judge_73) rfl rfl) <|
  xA0 (ok_aload_n (xdd xB_191 dX11_judge_76) rfl rfl) <|
  xA0 (ok_iload_n (xdd xB_191 dX11_judge_77) rfl rfl) <|
  xAK rfl (xC1 (ok_callV (xdd xB_191 dX11_judge_78) rfl xq_9 rfl xp_174_1 q1829 q1831 qs77 q124 q1832) xC0) <|
  xAR (ok_ireturn (xdd xB_191 dX11_judge_81) rfl) <|
  xA1 (ok_iinc (xdd xB_191 dX11_judge_82) rfl) <|
  xA0 (ok_goto (xdd xB_191 dX11_judge_85) rfl) <|
  xA0 (ok_aload_n (xdd xB_191 dX11_judge_88) rfl rfl) <|
  xA0 (ok_bipush (xdd xB_191 dX11_judge_89) rfl rfl (xrg rfl)) <|
  xAK rfl (xC1 (ok_callV (xdd xB_191 dX11_judge_91) rfl xq_9 rfl xp_174_1 q1829 q1831 qs77 q124 q1832) xC0) <|
  xAR (ok_ireturn (xdd xB_191 dX11_judge_94) rfl) <|
  xAe
theorem xe_191 {s0 : State} {A0 : Array Value} {D : va_G} {ta : Nat → ClassId} {l : Launch} : XAllC s0 A0 D ta l 191 xk_191 := ⟨xe_191_0, xe_191_1, xe_191_2, trivial⟩
theorem xe_192_0 {s0 : State} {A0 : Array Value} {D : va_G} {ta : Nat → ClassId} {l : Launch} : XAll s0 A0 D ta l 192 xk_192_0 :=
  xA0 (ok_aload_n (xdd xB_192 dX11_way_0) rfl rfl) <|
  xA0 (ok_iconst (xdd xB_192 dX11_way_1) rfl rfl (xrg rfl)) <|
  xA1 (ok_putI (xdd xB_192 dX11_way_2) rfl (lk_f q1403) rfl xfd_66 (Or.inl rfl)) <|
  xA0 (ok_aload_n (xdd xB_192 dX11_way_5) rfl rfl) <|
  xA0 (ok_aload_n (xdd xB_192 dX11_way_6) rfl rfl) <|
  xA0 (ok_iload_n (xdd xB_192 dX11_way_7) rfl rfl) <|
  xAK rfl (xC1 (ok_callV (xdd xB_192 dX11_way_8) rfl xq_9 rfl xp_178_1 q1845 q1847 qs78 q124 q1848) xC0) <|
  xAB (ok_if_eq (xdd xB_192 dX11_way_11) rfl rfl) <|
  xA0 (ok_aload_n (xdd xB_192 dX11_way_14) rfl rfl) <|
  xA0 (ok_iload_n (xdd xB_192 dX11_way_15) rfl rfl) <|
  xAK rfl (xC1 (ok_callV (xdd xB_192 dX11_way_16) rfl xq_9 rfl xp_178_1 q1845 q1847 qs78 q124 q1848) xC0) <|
  xAB (ok_if_eq (xdd xB_192 dX11_way_19) rfl rfl) <|
  xA0 (ok_iconst (xdd xB_192 dX11_way_22) rfl rfl (xrg rfl)) <|
  xA0 (ok_goto (xdd xB_192 dX11_way_23) rfl) <|
  xA0 (ok_iconst (xdd xB_192 dX11_way_26) rfl rfl (xrg rfl)) <|
  xA0 (ok_iload_n (xdd xB_192 dX11_way_27) rfl rfl) <|
  xAK rfl (xC1 (ok_callV (xdd xB_192 dX11_way_28) rfl xq_9 rfl xp_193_2 q1909 q1911 qs83 q124 q1912) xC0) <|
  xA0 (ok_istore (xdd xB_192 dX11_way_31) rfl) <|
  xAe
theorem xe_192_1 {s0 : State} {A0 : Array Value} {D : va_G} {ta : Nat → ClassId} {l : Launch} : XAll s0 A0 D ta l 192 xk_192_1 :=
  xA0 (ok_iload (xdd xB_192 dX11_way_33) rfl) <|
  xAB (ok_if_le (xdd xB_192 dX11_way_35) rfl rfl) <|
  xA0 (ok_aload_n (xdd xB_192 dX11_way_38) rfl rfl) <|
  xA0 (ok_iload (xdd xB_192 dX11_way_39) rfl) <|
  xAK rfl (xC1 (ok_callV (xdd xB_192 dX11_way_41) rfl xq_9 rfl xp_142_1 q1533 q1535 qs49 q124 q1536) xC0) <|
  xA0 (ok_goto (xdd xB_192 dX11_way_44) rfl) <|
  xA0 (ok_aload_n (xdd xB_192 dX11_way_47) rfl rfl) <|
  xA0 (ok_aload_n (xdd xB_192 dX11_way_48) rfl rfl) <|
  xA0 (ok_iload_n (xdd xB_192 dX11_way_49) rfl rfl) <|
  xA0 (ok_iload_n (xdd xB_192 dX11_way_50) rfl rfl) <|
  xA0 (ok_iload_n (xdd xB_192 dX11_way_51) rfl rfl) <|
  xA0 (ok_iconst (xdd xB_192 dX11_way_52) rfl rfl (xrg rfl)) <|
  xAK rfl (xC1 (ok_callV (xdd xB_192 dX11_way_53) rfl xq_9 rfl xp_194_4 q1913 q1915 qs84 q124 q1916) xC0) <|
  xAK rfl (xC1 (ok_callV (xdd xB_192 dX11_way_56) rfl xq_9 rfl xp_174_1 q1829 q1831 qs77 q124 q1832) xC0) <|
  xAR (ok_ireturn (xdd xB_192 dX11_way_59) rfl) <|
  xAe
theorem xe_192 {s0 : State} {A0 : Array Value} {D : va_G} {ta : Nat → ClassId} {l : Launch} : XAllC s0 A0 D ta l 192 xk_192 := ⟨xe_192_0, xe_192_1, trivial⟩
theorem xe_193_0 {s0 : State} {A0 : Array Value} {D : va_G} {ta : Nat → ClassId} {l : Launch} : XAll s0 A0 D ta l 193 xk_193_0 :=
  xA0 (ok_iload_n (xdd xB_193 dX11_refusesWay_0) rfl rfl) <|
  xAB (ok_if_ne (xdd xB_193 dX11_refusesWay_1) rfl rfl) <|
  xA0 (ok_iconst (xdd xB_193 dX11_refusesWay_4) rfl rfl (xrg rfl)) <|
  xA0 (ok_goto (xdd xB_193 dX11_refusesWay_5) rfl) <|
  xA0 (ok_iload_n (xdd xB_193 dX11_refusesWay_8) rfl rfl) <|
  xA0 (ok_iconst (xdd xB_193 dX11_refusesWay_9) rfl rfl (xrg rfl)) <|
  xA0 (ok_sipush (xdd xB_193 dX11_refusesWay_10) rfl rfl (xrg rfl)) <|
  xAK rfl (xC1 (ok_callS (xdd xB_193 dX11_refusesWay_13) rfl xp_156_3 q1727 q1728 q124 q1729) xC0) <|
  xAB (ok_if_eq (xdd xB_193 dX11_refusesWay_16) rfl rfl) <|
  xA0 (ok_iconst (xdd xB_193 dX11_refusesWay_19) rfl rfl (xrg rfl)) <|
  xA0 (ok_goto (xdd xB_193 dX11_refusesWay_20) rfl) <|
  xA0 (ok_iconst (xdd xB_193 dX11_refusesWay_23) rfl rfl (xrg rfl)) <|
  xAR (ok_ireturn (xdd xB_193 dX11_refusesWay_24) rfl) <|
  xAe
theorem xe_193 {s0 : State} {A0 : Array Value} {D : va_G} {ta : Nat → ClassId} {l : Launch} : XAllC s0 A0 D ta l 193 xk_193 := ⟨xe_193_0, trivial⟩
theorem xe_194_0 {s0 : State} {A0 : Array Value} {D : va_G} {ta : Nat → ClassId} {l : Launch} : XAll s0 A0 D ta l 194 xk_194_0 :=
  xA0 (ok_aload_n (xdd xB_194 dX11_soonest_0) rfl rfl) <|
  xA0 (ok_iload_n (xdd xB_194 dX11_soonest_1) rfl rfl) <|
  xA0 (ok_iload_n (xdd xB_194 dX11_soonest_2) rfl rfl) <|
  xA0 (ok_iload_n (xdd xB_194 dX11_soonest_3) rfl rfl) <|
  xA0 (ok_iload (xdd xB_194 dX11_soonest_4) rfl) <|
  xAK rfl (xC1 (ok_callV (xdd xB_194 dX11_soonest_6) rfl xq_9 rfl xp_195_4 q1917 q1919 qs85 q124 q1920) xC0) <|
  xA0 (ok_aload_n (xdd xB_194 dX11_soonest_9) rfl rfl) <|
  xA1 (ok_getI (xdd xB_194 dX11_soonest_10) rfl (lk_f q1426) (by decide)) <|
  xAB (ok_if_ne (xdd xB_194 dX11_soonest_13) rfl rfl) <|
  xA0 (ok_bipush (xdd xB_194 dX11_soonest_16) rfl rfl (xrg rfl)) <|
  xA0 (ok_goto (xdd xB_194 dX11_soonest_18) rfl) <|
  xA0 (ok_aload_n (xdd xB_194 dX11_soonest_21) rfl rfl) <|
  xA1 (ok_getI (xdd xB_194 dX11_soonest_22) rfl (lk_f q1427) (by decide)) <|
  xA0 (ok_iload_n (xdd xB_194 dX11_soonest_25) rfl rfl) <|
  xA1 (ok_isub (xdd xB_194 dX11_soonest_26) rfl) <|
  xAR (ok_ireturn (xdd xB_194 dX11_soonest_27) rfl) <|
  xAe
theorem xe_194 {s0 : State} {A0 : Array Value} {D : va_G} {ta : Nat → ClassId} {l : Launch} : XAllC s0 A0 D ta l 194 xk_194 := ⟨xe_194_0, trivial⟩
theorem xe_195_0 {s0 : State} {A0 : Array Value} {D : va_G} {ta : Nat → ClassId} {l : Launch} : XAll s0 A0 D ta l 195 xk_195_0 :=
  xA0 (ok_aload_n (xdd xB_195 dX11_ways_0) rfl rfl) <|
  xA0 (ok_iconst (xdd xB_195 dX11_ways_1) rfl rfl (xrg rfl)) <|
  xA1 (ok_putI (xdd xB_195 dX11_ways_2) rfl (lk_f q1426) rfl xfd_89 (Or.inl rfl)) <|
  xA0 (ok_aload_n (xdd xB_195 dX11_ways_5) rfl rfl) <|
  xA0 (ok_ldcw (xdd xB_195 dX11_ways_6) rfl q1828 rfl (xrg rfl)) <|
  xA1 (ok_putI (xdd xB_195 dX11_ways_9) rfl (lk_f q1427) rfl xfd_90 (Or.inl rfl)) <|
  xA0 (ok_aload_n (xdd xB_195 dX11_ways_12) rfl rfl) <|
  xA1 (ok_getA (xdd xB_195 dX11_ways_13) rfl (lk_f q1424) rfl) <|
  xA0 (ok_iconst (xdd xB_195 dX11_ways_16) rfl rfl (xrg rfl)) <|
  xA0 (ok_iload_n (xdd xB_195 dX11_ways_17) rfl rfl) <|
  xA1 (ok_iastore (xdd xB_195 dX11_ways_18) rfl) <|
  xA0 (ok_aload_n (xdd xB_195 dX11_ways_19) rfl rfl) <|
  xA1 (ok_getA (xdd xB_195 dX11_ways_20) rfl (lk_f q1428) rfl) <|
  xA0 (ok_iconst (xdd xB_195 dX11_ways_23) rfl rfl (xrg rfl)) <|
  xA0 (ok_iload_n (xdd xB_195 dX11_ways_24) rfl rfl) <|
  xA1 (ok_iastore (xdd xB_195 dX11_ways_25) rfl) <|
  xA0 (ok_iload_n (xdd xB_195 dX11_ways_26) rfl rfl) <|
  xA0 (ok_iload_n (xdd xB_195 dX11_ways_27) rfl rfl) <|
  xAB (ok_icmp_ne (xdd xB_195 dX11_ways_28) rfl rfl) <|
  xA0 (ok_aload_n (xdd xB_195 dX11_ways_31) rfl rfl) <|
  xAe
theorem xe_195_1 {s0 : State} {A0 : Array Value} {D : va_G} {ta : Nat → ClassId} {l : Launch} : XAll s0 A0 D ta l 195 xk_195_1 :=
  xA0 (ok_iconst (xdd xB_195 dX11_ways_32) rfl rfl (xrg rfl)) <|
  xAK rfl (xC1 (ok_callV (xdd xB_195 dX11_ways_33) rfl xq_9 rfl xp_196_1 q1921 q1923 qs86 q124 q1924) xC0) <|
  xAR (ok_vreturn (xdd xB_195 dX11_ways_36) rfl) <|
  xA0 (ok_iconst (xdd xB_195 dX11_ways_37) rfl rfl (xrg rfl)) <|
  xA0 (ok_iload_n (xdd xB_195 dX11_ways_38) rfl rfl) <|
  xA1 (ok_ishl (xdd xB_195 dX11_ways_39) rfl) <|
  xA0 (ok_istore (xdd xB_195 dX11_ways_40) rfl) <|
  xA0 (ok_iconst (xdd xB_195 dX11_ways_42) rfl rfl (xrg rfl)) <|
  xA0 (ok_istore (xdd xB_195 dX11_ways_43) rfl) <|
  xA0 (ok_aload_n (xdd xB_195 dX11_ways_45) rfl rfl) <|
  xA1 (ok_getA (xdd xB_195 dX11_ways_46) rfl (lk_f q1424) rfl) <|
  xA0 (ok_iconst (xdd xB_195 dX11_ways_49) rfl rfl (xrg rfl)) <|
  xA0 (ok_iconst (xdd xB_195 dX11_ways_50) rfl rfl (xrg rfl)) <|
  xA1 (ok_iastore (xdd xB_195 dX11_ways_51) rfl) <|
  xA0 (ok_iload (xdd xB_195 dX11_ways_52) rfl) <|
  xAB (ok_if_le (xdd xB_195 dX11_ways_54) rfl rfl) <|
  xA0 (ok_aload_n (xdd xB_195 dX11_ways_57) rfl rfl) <|
  xA1 (ok_getA (xdd xB_195 dX11_ways_58) rfl (lk_f q1424) rfl) <|
  xA0 (ok_iload (xdd xB_195 dX11_ways_61) rfl) <|
  xA1 (ok_iaload (xdd xB_195 dX11_ways_63) rfl) <|
  xAe
theorem xe_195_2 {s0 : State} {A0 : Array Value} {D : va_G} {ta : Nat → ClassId} {l : Launch} : XAll s0 A0 D ta l 195 xk_195_2 :=
  xA0 (ok_iconst (xdd xB_195 dX11_ways_64) rfl rfl (xrg rfl)) <|
  xAB (ok_icmp_eq (xdd xB_195 dX11_ways_65) rfl rfl) <|
  xA0 (ok_iload (xdd xB_195 dX11_ways_68) rfl) <|
  xA0 (ok_iconst (xdd xB_195 dX11_ways_70) rfl rfl (xrg rfl)) <|
  xA0 (ok_aload_n (xdd xB_195 dX11_ways_71) rfl rfl) <|
  xA1 (ok_getA (xdd xB_195 dX11_ways_72) rfl (lk_f q1424) rfl) <|
  xA0 (ok_iload (xdd xB_195 dX11_ways_75) rfl) <|
  xA1 (ok_iaload (xdd xB_195 dX11_ways_77) rfl) <|
  xA1 (ok_ishl (xdd xB_195 dX11_ways_78) rfl) <|
  xA0 (ok_iconst (xdd xB_195 dX11_ways_79) rfl rfl (xrg rfl)) <|
  xA0 (ok_ixor (xdd xB_195 dX11_ways_80) rfl) <|
  xA0 (ok_iand (xdd xB_195 dX11_ways_81) rfl) <|
  xA0 (ok_istore (xdd xB_195 dX11_ways_82) rfl) <|
  xA0 (ok_aload_n (xdd xB_195 dX11_ways_84) rfl rfl) <|
  xA1 (ok_getA (xdd xB_195 dX11_ways_85) rfl (lk_f q1424) rfl) <|
  xA0 (ok_iload (xdd xB_195 dX11_ways_88) rfl) <|
  xA0 (ok_dup2 (xdd xB_195 dX11_ways_90) rfl) <|
  xA1 (ok_iaload (xdd xB_195 dX11_ways_91) rfl) <|
  xA0 (ok_iconst (xdd xB_195 dX11_ways_92) rfl rfl (xrg rfl)) <|
  xA1 (ok_iadd (xdd xB_195 dX11_ways_93) rfl) <|
  xA1 (ok_iastore (xdd xB_195 dX11_ways_94) rfl) <|
  xA0 (ok_aload_n (xdd xB_195 dX11_ways_95) rfl rfl) <|
  xAe
theorem xe_195_3 {s0 : State} {A0 : Array Value} {D : va_G} {ta : Nat → ClassId} {l : Launch} : XAll s0 A0 D ta l 195 xk_195_3 :=
  xA1 (ok_getA (xdd xB_195 dX11_ways_96) rfl (lk_f q1424) rfl) <|
  xA0 (ok_iload (xdd xB_195 dX11_ways_99) rfl) <|
  xA1 (ok_iaload (xdd xB_195 dX11_ways_101) rfl) <|
  xA0 (ok_aload_n (xdd xB_195 dX11_ways_102) rfl rfl) <|
  xA1 (ok_getA (xdd xB_195 dX11_ways_103) rfl (lk_f q1406) rfl) <|
  xA1 (ok_getI (xdd xB_195 dX11_ways_106) rfl (lk_n q1546) (by decide)) <|
  xAB (ok_icmp_ge (xdd xB_195 dX11_ways_109) rfl rfl) <|
  xA0 (ok_iload (xdd xB_195 dX11_ways_112) rfl) <|
  xA0 (ok_aload_n (xdd xB_195 dX11_ways_114) rfl rfl) <|
  xA1 (ok_getA (xdd xB_195 dX11_ways_115) rfl (lk_f q1424) rfl) <|
  xA0 (ok_iload (xdd xB_195 dX11_ways_118) rfl) <|
  xA1 (ok_iaload (xdd xB_195 dX11_ways_120) rfl) <|
  xAK rfl (xC1 (ok_callS (xdd xB_195 dX11_ways_121) rfl xp_180_2 q1853 q1854 q124 q1855) xC0) <|
  xAB (ok_if_ne (xdd xB_195 dX11_ways_124) rfl rfl) <|
  xA0 (ok_aload_n (xdd xB_195 dX11_ways_127) rfl rfl) <|
  xAe
theorem xe_195_4 {s0 : State} {A0 : Array Value} {D : va_G} {ta : Nat → ClassId} {l : Launch} : XAll s0 A0 D ta l 195 xk_195_4 :=
  xA0 (ok_iload (xdd xB_195 dX11_ways_128) rfl) <|
  xA0 (ok_iload (xdd xB_195 dX11_ways_130) rfl) <|
  xAK rfl (xC1 (ok_callV (xdd xB_195 dX11_ways_132) rfl xq_9 rfl xp_197_2 q1925 q1927 qs87 q124 q1928) xC0) <|
  xAB (ok_if_ne (xdd xB_195 dX11_ways_135) rfl rfl) <|
  xA0 (ok_aload_n (xdd xB_195 dX11_ways_138) rfl rfl) <|
  xA1 (ok_getA (xdd xB_195 dX11_ways_139) rfl (lk_f q1424) rfl) <|
  xA0 (ok_iload (xdd xB_195 dX11_ways_142) rfl) <|
  xA0 (ok_dup2 (xdd xB_195 dX11_ways_144) rfl) <|
  xA1 (ok_iaload (xdd xB_195 dX11_ways_145) rfl) <|
  xA0 (ok_iconst (xdd xB_195 dX11_ways_146) rfl rfl (xrg rfl)) <|
  xA1 (ok_iadd (xdd xB_195 dX11_ways_147) rfl) <|
  xA1 (ok_iastore (xdd xB_195 dX11_ways_148) rfl) <|
  xA0 (ok_goto (xdd xB_195 dX11_ways_149) rfl) <|
  xA0 (ok_aload_n (xdd xB_195 dX11_ways_152) rfl rfl) <|
  xA1 (ok_getA (xdd xB_195 dX11_ways_153) rfl (lk_f q1424) rfl) <|
  xA0 (ok_iload (xdd xB_195 dX11_ways_156) rfl) <|
  xA1 (ok_iaload (xdd xB_195 dX11_ways_158) rfl) <|
  xA0 (ok_aload_n (xdd xB_195 dX11_ways_159) rfl rfl) <|
  xAe
theorem xe_195_5 {s0 : State} {A0 : Array Value} {D : va_G} {ta : Nat → ClassId} {l : Launch} : XAll s0 A0 D ta l 195 xk_195_5 :=
  xA1 (ok_getA (xdd xB_195 dX11_ways_160) rfl (lk_f q1406) rfl) <|
  xA1 (ok_getI (xdd xB_195 dX11_ways_163) rfl (lk_n q1546) (by decide)) <|
  xAB (ok_icmp_lt (xdd xB_195 dX11_ways_166) rfl rfl) <|
  xA1 (ok_iinc (xdd xB_195 dX11_ways_169) rfl) <|
  xA0 (ok_goto (xdd xB_195 dX11_ways_172) rfl) <|
  xA0 (ok_iload (xdd xB_195 dX11_ways_175) rfl) <|
  xA0 (ok_iconst (xdd xB_195 dX11_ways_177) rfl rfl (xrg rfl)) <|
  xA0 (ok_aload_n (xdd xB_195 dX11_ways_178) rfl rfl) <|
  xA1 (ok_getA (xdd xB_195 dX11_ways_179) rfl (lk_f q1424) rfl) <|
  xA0 (ok_iload (xdd xB_195 dX11_ways_182) rfl) <|
  xA1 (ok_iaload (xdd xB_195 dX11_ways_184) rfl) <|
  xA1 (ok_ishl (xdd xB_195 dX11_ways_185) rfl) <|
  xA0 (ok_ior (xdd xB_195 dX11_ways_186) rfl) <|
  xA0 (ok_istore (xdd xB_195 dX11_ways_187) rfl) <|
  xA0 (ok_aload_n (xdd xB_195 dX11_ways_189) rfl rfl) <|
  xA1 (ok_getA (xdd xB_195 dX11_ways_190) rfl (lk_f q1424) rfl) <|
  xAe
theorem xe_195_6 {s0 : State} {A0 : Array Value} {D : va_G} {ta : Nat → ClassId} {l : Launch} : XAll s0 A0 D ta l 195 xk_195_6 :=
  xA0 (ok_iload (xdd xB_195 dX11_ways_193) rfl) <|
  xA1 (ok_iaload (xdd xB_195 dX11_ways_195) rfl) <|
  xA0 (ok_iload_n (xdd xB_195 dX11_ways_196) rfl rfl) <|
  xAB (ok_icmp_ne (xdd xB_195 dX11_ways_197) rfl rfl) <|
  xA0 (ok_aload_n (xdd xB_195 dX11_ways_200) rfl rfl) <|
  xA0 (ok_iload (xdd xB_195 dX11_ways_201) rfl) <|
  xA0 (ok_iconst (xdd xB_195 dX11_ways_203) rfl rfl (xrg rfl)) <|
  xA1 (ok_iadd (xdd xB_195 dX11_ways_204) rfl) <|
  xAK rfl (xC1 (ok_callV (xdd xB_195 dX11_ways_205) rfl xq_9 rfl xp_196_1 q1921 q1923 qs86 q124 q1924) xC0) <|
  xA0 (ok_goto (xdd xB_195 dX11_ways_208) rfl) <|
  xA0 (ok_iload (xdd xB_195 dX11_ways_211) rfl) <|
  xA0 (ok_iconst (xdd xB_195 dX11_ways_213) rfl rfl (xrg rfl)) <|
  xA1 (ok_iadd (xdd xB_195 dX11_ways_214) rfl) <|
  xA0 (ok_aload_n (xdd xB_195 dX11_ways_215) rfl rfl) <|
  xA1 (ok_getA (xdd xB_195 dX11_ways_216) rfl (lk_f q1406) rfl) <|
  xA1 (ok_getI (xdd xB_195 dX11_ways_219) rfl (lk_n q1546) (by decide)) <|
  xAB (ok_icmp_ge (xdd xB_195 dX11_ways_222) rfl rfl) <|
  xAe
theorem xe_195_7 {s0 : State} {A0 : Array Value} {D : va_G} {ta : Nat → ClassId} {l : Launch} : XAll s0 A0 D ta l 195 xk_195_7 :=
  xA1 (ok_iinc (xdd xB_195 dX11_ways_225) rfl) <|
  xA0 (ok_aload_n (xdd xB_195 dX11_ways_228) rfl rfl) <|
  xA1 (ok_getA (xdd xB_195 dX11_ways_229) rfl (lk_f q1424) rfl) <|
  xA0 (ok_iload (xdd xB_195 dX11_ways_232) rfl) <|
  xA0 (ok_iconst (xdd xB_195 dX11_ways_234) rfl rfl (xrg rfl)) <|
  xA1 (ok_iastore (xdd xB_195 dX11_ways_235) rfl) <|
  xA0 (ok_goto (xdd xB_195 dX11_ways_236) rfl) <|
  xAR (ok_vreturn (xdd xB_195 dX11_ways_239) rfl) <|
  xAe
theorem xe_195 {s0 : State} {A0 : Array Value} {D : va_G} {ta : Nat → ClassId} {l : Launch} : XAllC s0 A0 D ta l 195 xk_195 := ⟨xe_195_0, xe_195_1, xe_195_2, xe_195_3, xe_195_4, xe_195_5, xe_195_6, xe_195_7, trivial⟩
theorem xe_196_0 {s0 : State} {A0 : Array Value} {D : va_G} {ta : Nat → ClassId} {l : Launch} : XAll s0 A0 D ta l 196 xk_196_0 :=
  xA0 (ok_aload_n (xdd xB_196 dX11_ends_0) rfl rfl) <|
  xA1 (ok_getA (xdd xB_196 dX11_ends_1) rfl (lk_f q1428) rfl) <|
  xA0 (ok_iload_n (xdd xB_196 dX11_ends_4) rfl rfl) <|
  xA0 (ok_iconst (xdd xB_196 dX11_ends_5) rfl rfl (xrg rfl)) <|
  xA1 (ok_isub (xdd xB_196 dX11_ends_6) rfl) <|
  xA1 (ok_iaload (xdd xB_196 dX11_ends_7) rfl) <|
  xA0 (ok_aload_n (xdd xB_196 dX11_ends_8) rfl rfl) <|
  xA1 (ok_getI (xdd xB_196 dX11_ends_9) rfl (lk_f q1427) (by decide)) <|
  xAB (ok_icmp_lt (xdd xB_196 dX11_ends_12) rfl rfl) <|
  xAR (ok_vreturn (xdd xB_196 dX11_ends_15) rfl) <|
  xA0 (ok_aload_n (xdd xB_196 dX11_ends_16) rfl rfl) <|
  xA0 (ok_aload_n (xdd xB_196 dX11_ends_17) rfl rfl) <|
  xA1 (ok_getA (xdd xB_196 dX11_ends_18) rfl (lk_f q1428) rfl) <|
  xA0 (ok_iload_n (xdd xB_196 dX11_ends_21) rfl rfl) <|
  xA0 (ok_iconst (xdd xB_196 dX11_ends_22) rfl rfl (xrg rfl)) <|
  xA1 (ok_isub (xdd xB_196 dX11_ends_23) rfl) <|
  xA1 (ok_iaload (xdd xB_196 dX11_ends_24) rfl) <|
  xA1 (ok_putI (xdd xB_196 dX11_ends_25) rfl (lk_f q1427) rfl xfd_90 (Or.inl rfl)) <|
  xA0 (ok_aload_n (xdd xB_196 dX11_ends_28) rfl rfl) <|
  xA0 (ok_iload_n (xdd xB_196 dX11_ends_29) rfl rfl) <|
  xA1 (ok_putI (xdd xB_196 dX11_ends_30) rfl (lk_f q1426) rfl xfd_89 (Or.inl rfl)) <|
  xAe
theorem xe_196_1 {s0 : State} {A0 : Array Value} {D : va_G} {ta : Nat → ClassId} {l : Launch} : XAll s0 A0 D ta l 196 xk_196_1 :=
  xA0 (ok_iconst (xdd xB_196 dX11_ends_33) rfl rfl (xrg rfl)) <|
  xA0 (ok_istore_n (xdd xB_196 dX11_ends_34) rfl rfl) <|
  xA0 (ok_iload_n (xdd xB_196 dX11_ends_35) rfl rfl) <|
  xA0 (ok_iload_n (xdd xB_196 dX11_ends_36) rfl rfl) <|
  xAB (ok_icmp_ge (xdd xB_196 dX11_ends_37) rfl rfl) <|
  xA0 (ok_aload_n (xdd xB_196 dX11_ends_40) rfl rfl) <|
  xA1 (ok_getA (xdd xB_196 dX11_ends_41) rfl (lk_f q1425) rfl) <|
  xA0 (ok_iload_n (xdd xB_196 dX11_ends_44) rfl rfl) <|
  xA0 (ok_aload_n (xdd xB_196 dX11_ends_45) rfl rfl) <|
  xA1 (ok_getA (xdd xB_196 dX11_ends_46) rfl (lk_f q1424) rfl) <|
  xA0 (ok_iload_n (xdd xB_196 dX11_ends_49) rfl rfl) <|
  xA1 (ok_iaload (xdd xB_196 dX11_ends_50) rfl) <|
  xA1 (ok_iastore (xdd xB_196 dX11_ends_51) rfl) <|
  xA1 (ok_iinc (xdd xB_196 dX11_ends_52) rfl) <|
  xA0 (ok_goto (xdd xB_196 dX11_ends_55) rfl) <|
  xAR (ok_vreturn (xdd xB_196 dX11_ends_58) rfl) <|
  xAe
theorem xe_196 {s0 : State} {A0 : Array Value} {D : va_G} {ta : Nat → ClassId} {l : Launch} : XAllC s0 A0 D ta l 196 xk_196 := ⟨xe_196_0, xe_196_1, trivial⟩
theorem xe_197_0 {s0 : State} {A0 : Array Value} {D : va_G} {ta : Nat → ClassId} {l : Launch} : XAll s0 A0 D ta l 197 xk_197_0 :=
  xA0 (ok_aload_n (xdd xB_197 dX11_canStep_0) rfl rfl) <|
  xA1 (ok_getA (xdd xB_197 dX11_canStep_1) rfl (lk_f q1428) rfl) <|
  xA0 (ok_iload_n (xdd xB_197 dX11_canStep_4) rfl rfl) <|
  xA0 (ok_aload_n (xdd xB_197 dX11_canStep_5) rfl rfl) <|
  xA0 (ok_aload_n (xdd xB_197 dX11_canStep_6) rfl rfl) <|
  xA1 (ok_getA (xdd xB_197 dX11_canStep_7) rfl (lk_f q1424) rfl) <|
  xA0 (ok_iload_n (xdd xB_197 dX11_canStep_10) rfl rfl) <|
  xA0 (ok_iconst (xdd xB_197 dX11_canStep_11) rfl rfl (xrg rfl)) <|
  xA1 (ok_isub (xdd xB_197 dX11_canStep_12) rfl) <|
  xA1 (ok_iaload (xdd xB_197 dX11_canStep_13) rfl) <|
  xA0 (ok_aload_n (xdd xB_197 dX11_canStep_14) rfl rfl) <|
  xA1 (ok_getA (xdd xB_197 dX11_canStep_15) rfl (lk_f q1424) rfl) <|
  xA0 (ok_iload_n (xdd xB_197 dX11_canStep_18) rfl rfl) <|
  xA1 (ok_iaload (xdd xB_197 dX11_canStep_19) rfl) <|
  xA0 (ok_aload_n (xdd xB_197 dX11_canStep_20) rfl rfl) <|
  xA1 (ok_getA (xdd xB_197 dX11_canStep_21) rfl (lk_f q1428) rfl) <|
  xA0 (ok_iload_n (xdd xB_197 dX11_canStep_24) rfl rfl) <|
  xA0 (ok_iconst (xdd xB_197 dX11_canStep_25) rfl rfl (xrg rfl)) <|
  xA1 (ok_isub (xdd xB_197 dX11_canStep_26) rfl) <|
  xA1 (ok_iaload (xdd xB_197 dX11_canStep_27) rfl) <|
  xA0 (ok_iload_n (xdd xB_197 dX11_canStep_28) rfl rfl) <|
  xAK rfl (xC1 (ok_callV (xdd xB_197 dX11_canStep_29) rfl xq_9 rfl xp_198_4 q1929 q1931 qs88 q124 q1932) xC0) <|
  xAe
theorem xe_197_1 {s0 : State} {A0 : Array Value} {D : va_G} {ta : Nat → ClassId} {l : Launch} : XAll s0 A0 D ta l 197 xk_197_1 :=
  xA1 (ok_iastore (xdd xB_197 dX11_canStep_32) rfl) <|
  xA0 (ok_aload_n (xdd xB_197 dX11_canStep_33) rfl rfl) <|
  xA1 (ok_getA (xdd xB_197 dX11_canStep_34) rfl (lk_f q1428) rfl) <|
  xA0 (ok_iload_n (xdd xB_197 dX11_canStep_37) rfl rfl) <|
  xA1 (ok_iaload (xdd xB_197 dX11_canStep_38) rfl) <|
  xA0 (ok_ldcw (xdd xB_197 dX11_canStep_39) rfl q1828 rfl (xrg rfl)) <|
  xAB (ok_icmp_ge (xdd xB_197 dX11_canStep_42) rfl rfl) <|
  xA0 (ok_iconst (xdd xB_197 dX11_canStep_45) rfl rfl (xrg rfl)) <|
  xA0 (ok_goto (xdd xB_197 dX11_canStep_46) rfl) <|
  xA0 (ok_iconst (xdd xB_197 dX11_canStep_49) rfl rfl (xrg rfl)) <|
  xAR (ok_zreturn (xdd xB_197 dX11_canStep_50) rfl) <|
  xAe
theorem xe_197 {s0 : State} {A0 : Array Value} {D : va_G} {ta : Nat → ClassId} {l : Launch} : XAllC s0 A0 D ta l 197 xk_197 := ⟨xe_197_0, xe_197_1, trivial⟩
theorem xe_198_0 {s0 : State} {A0 : Array Value} {D : va_G} {ta : Nat → ClassId} {l : Launch} : XAll s0 A0 D ta l 198 xk_198_0 :=
  xA0 (ok_ldcw (xdd xB_198 dX11_steps_0) rfl q1828 rfl (xrg rfl)) <|
  xA0 (ok_istore (xdd xB_198 dX11_steps_3) rfl) <|
  xA0 (ok_aload_n (xdd xB_198 dX11_steps_5) rfl rfl) <|
  xA1 (ok_getA (xdd xB_198 dX11_steps_6) rfl (lk_f q1406) rfl) <|
  xA1 (ok_getA (xdd xB_198 dX11_steps_9) rfl (lk_n q1572) rfl) <|
  xA0 (ok_bipush (xdd xB_198 dX11_steps_12) rfl rfl (xrg rfl)) <|
  xA0 (ok_iload_n (xdd xB_198 dX11_steps_14) rfl rfl) <|
  xA1 (ok_imul (xdd xB_198 dX11_steps_15) rfl) <|
  xA0 (ok_iload_n (xdd xB_198 dX11_steps_16) rfl rfl) <|
  xA1 (ok_iadd (xdd xB_198 dX11_steps_17) rfl) <|
  xA1 (ok_iaload (xdd xB_198 dX11_steps_18) rfl) <|
  xAB (ok_if_le (xdd xB_198 dX11_steps_19) rfl rfl) <|
  xA0 (ok_iload_n (xdd xB_198 dX11_steps_22) rfl rfl) <|
  xA0 (ok_aload_n (xdd xB_198 dX11_steps_23) rfl rfl) <|
  xA1 (ok_getA (xdd xB_198 dX11_steps_24) rfl (lk_f q1406) rfl) <|
  xA1 (ok_getA (xdd xB_198 dX11_steps_27) rfl (lk_n q1572) rfl) <|
  xA0 (ok_bipush (xdd xB_198 dX11_steps_30) rfl rfl (xrg rfl)) <|
  xAe
theorem xe_198_1 {s0 : State} {A0 : Array Value} {D : va_G} {ta : Nat → ClassId} {l : Launch} : XAll s0 A0 D ta l 198 xk_198_1 :=
  xA0 (ok_iload_n (xdd xB_198 dX11_steps_32) rfl rfl) <|
  xA1 (ok_imul (xdd xB_198 dX11_steps_33) rfl) <|
  xA0 (ok_iload_n (xdd xB_198 dX11_steps_34) rfl rfl) <|
  xA1 (ok_iadd (xdd xB_198 dX11_steps_35) rfl) <|
  xA1 (ok_iaload (xdd xB_198 dX11_steps_36) rfl) <|
  xA1 (ok_iadd (xdd xB_198 dX11_steps_37) rfl) <|
  xA0 (ok_istore (xdd xB_198 dX11_steps_38) rfl) <|
  xA0 (ok_iload (xdd xB_198 dX11_steps_40) rfl) <|
  xAB (ok_if_eq (xdd xB_198 dX11_steps_42) rfl rfl) <|
  xA0 (ok_aload_n (xdd xB_198 dX11_steps_45) rfl rfl) <|
  xA1 (ok_getA (xdd xB_198 dX11_steps_46) rfl (lk_f q1418) rfl) <|
  xA0 (ok_iconst (xdd xB_198 dX11_steps_49) rfl rfl (xrg rfl)) <|
  xA0 (ok_iload_n (xdd xB_198 dX11_steps_50) rfl rfl) <|
  xA1 (ok_iadd (xdd xB_198 dX11_steps_51) rfl) <|
  xA1 (ok_iaload (xdd xB_198 dX11_steps_52) rfl) <|
  xA0 (ok_iload_n (xdd xB_198 dX11_steps_53) rfl rfl) <|
  xAB (ok_icmp_ne (xdd xB_198 dX11_steps_54) rfl rfl) <|
  xA0 (ok_aload_n (xdd xB_198 dX11_steps_57) rfl rfl) <|
  xA1 (ok_getA (xdd xB_198 dX11_steps_58) rfl (lk_f q1418) rfl) <|
  xA0 (ok_bipush (xdd xB_198 dX11_steps_61) rfl rfl (xrg rfl)) <|
  xA1 (ok_iaload (xdd xB_198 dX11_steps_63) rfl) <|
  xAe
theorem xe_198_2 {s0 : State} {A0 : Array Value} {D : va_G} {ta : Nat → ClassId} {l : Launch} : XAll s0 A0 D ta l 198 xk_198_2 :=
  xA0 (ok_iload_n (xdd xB_198 dX11_steps_64) rfl rfl) <|
  xAK rfl (xC1 (ok_callS (xdd xB_198 dX11_steps_65) rfl xp_180_2 q1853 q1854 q124 q1855) xC0) <|
  xAB (ok_if_eq (xdd xB_198 dX11_steps_68) rfl rfl) <|
  xA0 (ok_iload (xdd xB_198 dX11_steps_71) rfl) <|
  xAR (ok_ireturn (xdd xB_198 dX11_steps_73) rfl) <|
  xA0 (ok_iload_n (xdd xB_198 dX11_steps_74) rfl rfl) <|
  xA0 (ok_istore (xdd xB_198 dX11_steps_75) rfl) <|
  xA0 (ok_aload_n (xdd xB_198 dX11_steps_77) rfl rfl) <|
  xA1 (ok_getA (xdd xB_198 dX11_steps_78) rfl (lk_f q1406) rfl) <|
  xA0 (ok_iload_n (xdd xB_198 dX11_steps_81) rfl rfl) <|
  xA0 (ok_iload (xdd xB_198 dX11_steps_82) rfl) <|
  xA0 (ok_sipush (xdd xB_198 dX11_steps_84) rfl rfl (xrg rfl)) <|
  xA1 (ok_irem (xdd xB_198 dX11_steps_87) rfl) <|
  xAK rfl (xC1 (ok_callV (xdd xB_198 dX11_steps_88) rfl xq_15 rfl xp_295_2 q1864 q1865 q1866 q137 q1867) xC0) <|
  xAB (ok_if_ne (xdd xB_198 dX11_steps_91) rfl rfl) <|
  xA0 (ok_iload (xdd xB_198 dX11_steps_94) rfl) <|
  xAe
theorem xe_198_3 {s0 : State} {A0 : Array Value} {D : va_G} {ta : Nat → ClassId} {l : Launch} : XAll s0 A0 D ta l 198 xk_198_3 :=
  xA0 (ok_bipush (xdd xB_198 dX11_steps_96) rfl rfl (xrg rfl)) <|
  xA0 (ok_iload (xdd xB_198 dX11_steps_98) rfl) <|
  xA0 (ok_bipush (xdd xB_198 dX11_steps_100) rfl rfl (xrg rfl)) <|
  xA1 (ok_irem (xdd xB_198 dX11_steps_102) rfl) <|
  xA1 (ok_isub (xdd xB_198 dX11_steps_103) rfl) <|
  xA1 (ok_iadd (xdd xB_198 dX11_steps_104) rfl) <|
  xA0 (ok_istore (xdd xB_198 dX11_steps_105) rfl) <|
  xA0 (ok_goto (xdd xB_198 dX11_steps_107) rfl) <|
  xA0 (ok_iload (xdd xB_198 dX11_steps_110) rfl) <|
  xA0 (ok_aload_n (xdd xB_198 dX11_steps_112) rfl rfl) <|
  xA1 (ok_getA (xdd xB_198 dX11_steps_113) rfl (lk_f q1406) rfl) <|
  xA1 (ok_getI (xdd xB_198 dX11_steps_116) rfl (lk_n q1543) (by decide)) <|
  xA1 (ok_iadd (xdd xB_198 dX11_steps_119) rfl) <|
  xA0 (ok_iload (xdd xB_198 dX11_steps_120) rfl) <|
  xAB (ok_icmp_ge (xdd xB_198 dX11_steps_122) rfl rfl) <|
  xA0 (ok_iload (xdd xB_198 dX11_steps_125) rfl) <|
  xA0 (ok_aload_n (xdd xB_198 dX11_steps_127) rfl rfl) <|
  xAe
theorem xe_198_4 {s0 : State} {A0 : Array Value} {D : va_G} {ta : Nat → ClassId} {l : Launch} : XAll s0 A0 D ta l 198 xk_198_4 :=
  xA1 (ok_getA (xdd xB_198 dX11_steps_128) rfl (lk_f q1406) rfl) <|
  xA1 (ok_getI (xdd xB_198 dX11_steps_131) rfl (lk_n q1543) (by decide)) <|
  xA1 (ok_iadd (xdd xB_198 dX11_steps_134) rfl) <|
  xA0 (ok_goto (xdd xB_198 dX11_steps_135) rfl) <|
  xA0 (ok_iload (xdd xB_198 dX11_steps_138) rfl) <|
  xAR (ok_ireturn (xdd xB_198 dX11_steps_140) rfl) <|
  xAe
theorem xe_198 {s0 : State} {A0 : Array Value} {D : va_G} {ta : Nat → ClassId} {l : Launch} : XAllC s0 A0 D ta l 198 xk_198 := ⟨xe_198_0, xe_198_1, xe_198_2, xe_198_3, xe_198_4, trivial⟩
theorem xe_199_0 {s0 : State} {A0 : Array Value} {D : va_G} {ta : Nat → ClassId} {l : Launch} : XAll s0 A0 D ta l 199 xk_199_0 :=
  xA0 (ok_aload_n (xdd xB_199 dX11_wayAt_0) rfl rfl) <|
  xA0 (ok_iconst (xdd xB_199 dX11_wayAt_1) rfl rfl (xrg rfl)) <|
  xA1 (ok_putI (xdd xB_199 dX11_wayAt_2) rfl (lk_f q1403) rfl xfd_66 (Or.inl rfl)) <|
  xA0 (ok_aload_n (xdd xB_199 dX11_wayAt_5) rfl rfl) <|
  xA0 (ok_aload_n (xdd xB_199 dX11_wayAt_6) rfl rfl) <|
  xA0 (ok_iload_n (xdd xB_199 dX11_wayAt_7) rfl rfl) <|
  xAK rfl (xC1 (ok_callV (xdd xB_199 dX11_wayAt_8) rfl xq_9 rfl xp_178_1 q1845 q1847 qs78 q124 q1848) xC0) <|
  xAB (ok_if_eq (xdd xB_199 dX11_wayAt_11) rfl rfl) <|
  xA0 (ok_aload_n (xdd xB_199 dX11_wayAt_14) rfl rfl) <|
  xA0 (ok_iload_n (xdd xB_199 dX11_wayAt_15) rfl rfl) <|
  xAK rfl (xC1 (ok_callV (xdd xB_199 dX11_wayAt_16) rfl xq_9 rfl xp_178_1 q1845 q1847 qs78 q124 q1848) xC0) <|
  xAB (ok_if_eq (xdd xB_199 dX11_wayAt_19) rfl rfl) <|
  xA0 (ok_iconst (xdd xB_199 dX11_wayAt_22) rfl rfl (xrg rfl)) <|
  xA0 (ok_goto (xdd xB_199 dX11_wayAt_23) rfl) <|
  xA0 (ok_iconst (xdd xB_199 dX11_wayAt_26) rfl rfl (xrg rfl)) <|
  xA0 (ok_iload_n (xdd xB_199 dX11_wayAt_27) rfl rfl) <|
  xAK rfl (xC1 (ok_callV (xdd xB_199 dX11_wayAt_28) rfl xq_9 rfl xp_193_2 q1909 q1911 qs83 q124 q1912) xC0) <|
  xA0 (ok_istore (xdd xB_199 dX11_wayAt_31) rfl) <|
  xAe
theorem xe_199_1 {s0 : State} {A0 : Array Value} {D : va_G} {ta : Nat → ClassId} {l : Launch} : XAll s0 A0 D ta l 199 xk_199_1 :=
  xA0 (ok_iload (xdd xB_199 dX11_wayAt_33) rfl) <|
  xAB (ok_if_le (xdd xB_199 dX11_wayAt_35) rfl rfl) <|
  xA0 (ok_aload_n (xdd xB_199 dX11_wayAt_38) rfl rfl) <|
  xA0 (ok_iload (xdd xB_199 dX11_wayAt_39) rfl) <|
  xAK rfl (xC1 (ok_callV (xdd xB_199 dX11_wayAt_41) rfl xq_9 rfl xp_142_1 q1533 q1535 qs49 q124 q1536) xC0) <|
  xAR (ok_ireturn (xdd xB_199 dX11_wayAt_44) rfl) <|
  xA0 (ok_aload_n (xdd xB_199 dX11_wayAt_45) rfl rfl) <|
  xA0 (ok_iload_n (xdd xB_199 dX11_wayAt_46) rfl rfl) <|
  xA0 (ok_iload_n (xdd xB_199 dX11_wayAt_47) rfl rfl) <|
  xA0 (ok_iload_n (xdd xB_199 dX11_wayAt_48) rfl rfl) <|
  xA0 (ok_iconst (xdd xB_199 dX11_wayAt_49) rfl rfl (xrg rfl)) <|
  xAK rfl (xC1 (ok_callV (xdd xB_199 dX11_wayAt_50) rfl xq_9 rfl xp_194_4 q1913 q1915 qs84 q124 q1916) xC0) <|
  xA0 (ok_pop (xdd xB_199 dX11_wayAt_53) rfl) <|
  xA0 (ok_iload (xdd xB_199 dX11_wayAt_54) rfl) <|
  xAB (ok_if_lt (xdd xB_199 dX11_wayAt_56) rfl rfl) <|
  xA0 (ok_iload (xdd xB_199 dX11_wayAt_59) rfl) <|
  xA0 (ok_aload_n (xdd xB_199 dX11_wayAt_61) rfl rfl) <|
  xA1 (ok_getI (xdd xB_199 dX11_wayAt_62) rfl (lk_f q1426) (by decide)) <|
  xAe
theorem xe_199_2 {s0 : State} {A0 : Array Value} {D : va_G} {ta : Nat → ClassId} {l : Launch} : XAll s0 A0 D ta l 199 xk_199_2 :=
  xAB (ok_icmp_ge (xdd xB_199 dX11_wayAt_65) rfl rfl) <|
  xA0 (ok_aload_n (xdd xB_199 dX11_wayAt_68) rfl rfl) <|
  xA0 (ok_aload_n (xdd xB_199 dX11_wayAt_69) rfl rfl) <|
  xA1 (ok_getA (xdd xB_199 dX11_wayAt_70) rfl (lk_f q1425) rfl) <|
  xA0 (ok_iload (xdd xB_199 dX11_wayAt_73) rfl) <|
  xA1 (ok_iaload (xdd xB_199 dX11_wayAt_75) rfl) <|
  xAK rfl (xC1 (ok_callV (xdd xB_199 dX11_wayAt_76) rfl xq_9 rfl xp_174_1 q1829 q1831 qs77 q124 q1832) xC0) <|
  xA0 (ok_goto (xdd xB_199 dX11_wayAt_79) rfl) <|
  xA0 (ok_aload_n (xdd xB_199 dX11_wayAt_82) rfl rfl) <|
  xA0 (ok_iconst (xdd xB_199 dX11_wayAt_83) rfl rfl (xrg rfl)) <|
  xAK rfl (xC1 (ok_callV (xdd xB_199 dX11_wayAt_84) rfl xq_9 rfl xp_142_1 q1533 q1535 qs49 q124 q1536) xC0) <|
  xAR (ok_ireturn (xdd xB_199 dX11_wayAt_87) rfl) <|
  xAe
theorem xe_199 {s0 : State} {A0 : Array Value} {D : va_G} {ta : Nat → ClassId} {l : Launch} : XAllC s0 A0 D ta l 199 xk_199 := ⟨xe_199_0, xe_199_1, xe_199_2, trivial⟩
