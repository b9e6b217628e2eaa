/-! EVIDENCE: methods 200 to 249 -/
set_option maxRecDepth 100000
set_option maxHeartbeats 4000000
theorem xe_200_0 {s0 : State} {A0 : Array Value} {D : va_G} {ta : Nat → ClassId} {l : Launch} : XAll s0 A0 D ta l 200 xk_200_0 :=
  xA0 (ok_aload_n (xdd xB_200 dX11_saves_0) rfl rfl) <|
  xA0 (ok_iconst (xdd xB_200 dX11_saves_1) rfl rfl (xrg rfl)) <|
  xA1 (ok_putI (xdd xB_200 dX11_saves_2) rfl (lk_f q1403) rfl xfd_66 (Or.inl rfl)) <|
  xA0 (ok_aload_n (xdd xB_200 dX11_saves_5) rfl rfl) <|
  xA0 (ok_aload_n (xdd xB_200 dX11_saves_6) rfl rfl) <|
  xA0 (ok_iload_n (xdd xB_200 dX11_saves_7) rfl rfl) <|
  xAK rfl (xC1 (ok_callV (xdd xB_200 dX11_saves_8) rfl xq_9 rfl xp_178_1 q1845 q1847 qs78 q124 q1848) xC0) <|
  xAB (ok_if_eq (xdd xB_200 dX11_saves_11) rfl rfl) <|
  xA0 (ok_aload_n (xdd xB_200 dX11_saves_14) rfl rfl) <|
  xA0 (ok_iload_n (xdd xB_200 dX11_saves_15) rfl rfl) <|
  xAK rfl (xC1 (ok_callV (xdd xB_200 dX11_saves_16) rfl xq_9 rfl xp_178_1 q1845 q1847 qs78 q124 q1848) xC0) <|
  xAB (ok_if_eq (xdd xB_200 dX11_saves_19) rfl rfl) <|
  xA0 (ok_iconst (xdd xB_200 dX11_saves_22) rfl rfl (xrg rfl)) <|
  xA0 (ok_goto (xdd xB_200 dX11_saves_23) rfl) <|
  xA0 (ok_iconst (xdd xB_200 dX11_saves_26) rfl rfl (xrg rfl)) <|
  xA0 (ok_iload_n (xdd xB_200 dX11_saves_27) rfl rfl) <|
  xAK rfl (xC1 (ok_callV (xdd xB_200 dX11_saves_28) rfl xq_9 rfl xp_193_2 q1909 q1911 qs83 q124 q1912) xC0) <|
  xA0 (ok_istore (xdd xB_200 dX11_saves_31) rfl) <|
  xAe
theorem xe_200_1 {s0 : State} {A0 : Array Value} {D : va_G} {ta : Nat → ClassId} {l : Launch} : XAll s0 A0 D ta l 200 xk_200_1 :=
  xA0 (ok_iload (xdd xB_200 dX11_saves_33) rfl) <|
  xAB (ok_if_le (xdd xB_200 dX11_saves_35) rfl rfl) <|
  xA0 (ok_aload_n (xdd xB_200 dX11_saves_38) rfl rfl) <|
  xA0 (ok_iload (xdd xB_200 dX11_saves_39) rfl) <|
  xAK rfl (xC1 (ok_callV (xdd xB_200 dX11_saves_41) rfl xq_9 rfl xp_142_1 q1533 q1535 qs49 q124 q1536) xC0) <|
  xAR (ok_ireturn (xdd xB_200 dX11_saves_44) rfl) <|
  xA0 (ok_aload_n (xdd xB_200 dX11_saves_45) rfl rfl) <|
  xA0 (ok_iload_n (xdd xB_200 dX11_saves_46) rfl rfl) <|
  xA0 (ok_iload_n (xdd xB_200 dX11_saves_47) rfl rfl) <|
  xA0 (ok_iload_n (xdd xB_200 dX11_saves_48) rfl rfl) <|
  xA0 (ok_iconst (xdd xB_200 dX11_saves_49) rfl rfl (xrg rfl)) <|
  xAK rfl (xC1 (ok_callV (xdd xB_200 dX11_saves_50) rfl xq_9 rfl xp_194_4 q1913 q1915 qs84 q124 q1916) xC0) <|
  xA0 (ok_istore (xdd xB_200 dX11_saves_53) rfl) <|
  xA0 (ok_aload_n (xdd xB_200 dX11_saves_55) rfl rfl) <|
  xA0 (ok_iload (xdd xB_200 dX11_saves_56) rfl) <|
  xA0 (ok_bipush (xdd xB_200 dX11_saves_58) rfl rfl (xrg rfl)) <|
  xAB (ok_icmp_ne (xdd xB_200 dX11_saves_60) rfl rfl) <|
  xA0 (ok_bipush (xdd xB_200 dX11_saves_63) rfl rfl (xrg rfl)) <|
  xAe
theorem xe_200_2 {s0 : State} {A0 : Array Value} {D : va_G} {ta : Nat → ClassId} {l : Launch} : XAll s0 A0 D ta l 200 xk_200_2 :=
  xA0 (ok_goto (xdd xB_200 dX11_saves_65) rfl) <|
  xA0 (ok_iload (xdd xB_200 dX11_saves_68) rfl) <|
  xA0 (ok_aload_n (xdd xB_200 dX11_saves_70) rfl rfl) <|
  xA0 (ok_iload_n (xdd xB_200 dX11_saves_71) rfl rfl) <|
  xA0 (ok_iload_n (xdd xB_200 dX11_saves_72) rfl rfl) <|
  xA0 (ok_iload_n (xdd xB_200 dX11_saves_73) rfl rfl) <|
  xA0 (ok_iconst (xdd xB_200 dX11_saves_74) rfl rfl (xrg rfl)) <|
  xAK rfl (xC1 (ok_callV (xdd xB_200 dX11_saves_75) rfl xq_9 rfl xp_194_4 q1913 q1915 qs84 q124 q1916) xC0) <|
  xA1 (ok_isub (xdd xB_200 dX11_saves_78) rfl) <|
  xAK rfl (xC1 (ok_callV (xdd xB_200 dX11_saves_79) rfl xq_9 rfl xp_174_1 q1829 q1831 qs77 q124 q1832) xC0) <|
  xAR (ok_ireturn (xdd xB_200 dX11_saves_82) rfl) <|
  xAe
theorem xe_200 {s0 : State} {A0 : Array Value} {D : va_G} {ta : Nat → ClassId} {l : Launch} : XAllC s0 A0 D ta l 200 xk_200 := ⟨xe_200_0, xe_200_1, xe_200_2, trivial⟩
theorem xe_201_0 {s0 : State} {A0 : Array Value} {D : va_G} {ta : Nat → ClassId} {l : Launch} : XAll s0 A0 D ta l 201 xk_201_0 :=
  xA0 (ok_aload_n (xdd xB_201 dX11_farthest_0) rfl rfl) <|
  xA0 (ok_iconst (xdd xB_201 dX11_farthest_1) rfl rfl (xrg rfl)) <|
  xA1 (ok_putI (xdd xB_201 dX11_farthest_2) rfl (lk_f q1403) rfl xfd_66 (Or.inl rfl)) <|
  xA0 (ok_aload_n (xdd xB_201 dX11_farthest_5) rfl rfl) <|
  xA0 (ok_aload_n (xdd xB_201 dX11_farthest_6) rfl rfl) <|
  xA0 (ok_iload_n (xdd xB_201 dX11_farthest_7) rfl rfl) <|
  xAK rfl (xC1 (ok_callV (xdd xB_201 dX11_farthest_8) rfl xq_9 rfl xp_178_1 q1845 q1847 qs78 q124 q1848) xC0) <|
  xA0 (ok_iload_n (xdd xB_201 dX11_farthest_11) rfl rfl) <|
  xAK rfl (xC1 (ok_callV (xdd xB_201 dX11_farthest_12) rfl xq_9 rfl xp_193_2 q1909 q1911 qs83 q124 q1912) xC0) <|
  xA0 (ok_istore_n (xdd xB_201 dX11_farthest_15) rfl rfl) <|
  xA0 (ok_iload_n (xdd xB_201 dX11_farthest_16) rfl rfl) <|
  xAB (ok_if_le (xdd xB_201 dX11_farthest_17) rfl rfl) <|
  xA0 (ok_aload_n (xdd xB_201 dX11_farthest_20) rfl rfl) <|
  xA0 (ok_iload_n (xdd xB_201 dX11_farthest_21) rfl rfl) <|
  xAK rfl (xC1 (ok_callV (xdd xB_201 dX11_farthest_22) rfl xq_9 rfl xp_142_1 q1533 q1535 qs49 q124 q1536) xC0) <|
  xAR (ok_ireturn (xdd xB_201 dX11_farthest_25) rfl) <|
  xA0 (ok_iload_n (xdd xB_201 dX11_farthest_26) rfl rfl) <|
  xA0 (ok_istore (xdd xB_201 dX11_farthest_27) rfl) <|
  xA0 (ok_iconst (xdd xB_201 dX11_farthest_29) rfl rfl (xrg rfl)) <|
  xA0 (ok_istore (xdd xB_201 dX11_farthest_30) rfl) <|
  xAe
theorem xe_201_1 {s0 : State} {A0 : Array Value} {D : va_G} {ta : Nat → ClassId} {l : Launch} : XAll s0 A0 D ta l 201 xk_201_1 :=
  xA0 (ok_iconst (xdd xB_201 dX11_farthest_32) rfl rfl (xrg rfl)) <|
  xA0 (ok_istore (xdd xB_201 dX11_farthest_33) rfl) <|
  xA0 (ok_iload (xdd xB_201 dX11_farthest_35) rfl) <|
  xA0 (ok_aload_n (xdd xB_201 dX11_farthest_37) rfl rfl) <|
  xA1 (ok_getA (xdd xB_201 dX11_farthest_38) rfl (lk_f q1406) rfl) <|
  xA1 (ok_getI (xdd xB_201 dX11_farthest_41) rfl (lk_n q1546) (by decide)) <|
  xAB (ok_icmp_ge (xdd xB_201 dX11_farthest_44) rfl rfl) <|
  xA0 (ok_aload_n (xdd xB_201 dX11_farthest_47) rfl rfl) <|
  xA0 (ok_iload_n (xdd xB_201 dX11_farthest_48) rfl rfl) <|
  xA0 (ok_iload (xdd xB_201 dX11_farthest_49) rfl) <|
  xA0 (ok_iload_n (xdd xB_201 dX11_farthest_51) rfl rfl) <|
  xA0 (ok_iconst (xdd xB_201 dX11_farthest_52) rfl rfl (xrg rfl)) <|
  xAK rfl (xC1 (ok_callV (xdd xB_201 dX11_farthest_53) rfl xq_9 rfl xp_194_4 q1913 q1915 qs84 q124 q1916) xC0) <|
  xA0 (ok_istore (xdd xB_201 dX11_farthest_56) rfl) <|
  xA0 (ok_iload (xdd xB_201 dX11_farthest_58) rfl) <|
  xA0 (ok_iload (xdd xB_201 dX11_farthest_60) rfl) <|
  xAB (ok_icmp_gt (xdd xB_201 dX11_farthest_62) rfl rfl) <|
  xAe
theorem xe_201_2 {s0 : State} {A0 : Array Value} {D : va_G} {ta : Nat → ClassId} {l : Launch} : XAll s0 A0 D ta l 201 xk_201_2 :=
  xA0 (ok_goto (xdd xB_201 dX11_farthest_65) rfl) <|
  xA0 (ok_iload (xdd xB_201 dX11_farthest_68) rfl) <|
  xA0 (ok_istore (xdd xB_201 dX11_farthest_70) rfl) <|
  xA0 (ok_iload (xdd xB_201 dX11_farthest_72) rfl) <|
  xA0 (ok_istore (xdd xB_201 dX11_farthest_74) rfl) <|
  xA1 (ok_iinc (xdd xB_201 dX11_farthest_76) rfl) <|
  xA0 (ok_goto (xdd xB_201 dX11_farthest_79) rfl) <|
  xA0 (ok_aload_n (xdd xB_201 dX11_farthest_82) rfl rfl) <|
  xA0 (ok_iload (xdd xB_201 dX11_farthest_83) rfl) <|
  xAK rfl (xC1 (ok_callV (xdd xB_201 dX11_farthest_85) rfl xq_9 rfl xp_174_1 q1829 q1831 qs77 q124 q1832) xC0) <|
  xAR (ok_ireturn (xdd xB_201 dX11_farthest_88) rfl) <|
  xAe
theorem xe_201 {s0 : State} {A0 : Array Value} {D : va_G} {ta : Nat → ClassId} {l : Launch} : XAllC s0 A0 D ta l 201 xk_201 := ⟨xe_201_0, xe_201_1, xe_201_2, trivial⟩
theorem xe_202_0 {s0 : State} {A0 : Array Value} {D : va_G} {ta : Nat → ClassId} {l : Launch} : XAll s0 A0 D ta l 202 xk_202_0 :=
  xA0 (ok_aload_n (xdd xB_202 dX11_homeIn_0) rfl rfl) <|
  xA0 (ok_iconst (xdd xB_202 dX11_homeIn_1) rfl rfl (xrg rfl)) <|
  xA1 (ok_putI (xdd xB_202 dX11_homeIn_2) rfl (lk_f q1403) rfl xfd_66 (Or.inl rfl)) <|
  xA0 (ok_aload_n (xdd xB_202 dX11_homeIn_5) rfl rfl) <|
  xA0 (ok_iload_n (xdd xB_202 dX11_homeIn_6) rfl rfl) <|
  xAK rfl (xC1 (ok_callV (xdd xB_202 dX11_homeIn_7) rfl xq_9 rfl xp_185_1 q1878 q1880 qs81 q124 q1881) xC0) <|
  xAB (ok_if_eq (xdd xB_202 dX11_homeIn_10) rfl rfl) <|
  xA0 (ok_aload_n (xdd xB_202 dX11_homeIn_13) rfl rfl) <|
  xA0 (ok_aload_n (xdd xB_202 dX11_homeIn_14) rfl rfl) <|
  xA0 (ok_aload_n (xdd xB_202 dX11_homeIn_15) rfl rfl) <|
  xA1 (ok_getA (xdd xB_202 dX11_homeIn_16) rfl (lk_f q1418) rfl) <|
  xA0 (ok_bipush (xdd xB_202 dX11_homeIn_19) rfl rfl (xrg rfl)) <|
  xA0 (ok_iload_n (xdd xB_202 dX11_homeIn_21) rfl rfl) <|
  xA1 (ok_iadd (xdd xB_202 dX11_homeIn_22) rfl) <|
  xA1 (ok_iaload (xdd xB_202 dX11_homeIn_23) rfl) <|
  xA0 (ok_aload_n (xdd xB_202 dX11_homeIn_24) rfl rfl) <|
  xA1 (ok_getA (xdd xB_202 dX11_homeIn_25) rfl (lk_f q1406) rfl) <|
  xA1 (ok_getA (xdd xB_202 dX11_homeIn_28) rfl (lk_n q1574) rfl) <|
  xA0 (ok_iload_n (xdd xB_202 dX11_homeIn_31) rfl rfl) <|
  xAe
theorem xe_202_1 {s0 : State} {A0 : Array Value} {D : va_G} {ta : Nat → ClassId} {l : Launch} : XAll s0 A0 D ta l 202 xk_202_1 :=
  xA1 (ok_iaload (xdd xB_202 dX11_homeIn_32) rfl) <|
  xA0 (ok_aload_n (xdd xB_202 dX11_homeIn_33) rfl rfl) <|
  xA1 (ok_getA (xdd xB_202 dX11_homeIn_34) rfl (lk_f q1418) rfl) <|
  xA0 (ok_bipush (xdd xB_202 dX11_homeIn_37) rfl rfl (xrg rfl)) <|
  xA0 (ok_iload_n (xdd xB_202 dX11_homeIn_39) rfl rfl) <|
  xA1 (ok_iadd (xdd xB_202 dX11_homeIn_40) rfl) <|
  xA1 (ok_iaload (xdd xB_202 dX11_homeIn_41) rfl) <|
  xA0 (ok_sipush (xdd xB_202 dX11_homeIn_42) rfl rfl (xrg rfl)) <|
  xA1 (ok_irem (xdd xB_202 dX11_homeIn_45) rfl) <|
  xA0 (ok_iconst (xdd xB_202 dX11_homeIn_46) rfl rfl (xrg rfl)) <|
  xAK rfl (xC1 (ok_callV (xdd xB_202 dX11_homeIn_47) rfl xq_9 rfl xp_194_4 q1913 q1915 qs84 q124 q1916) xC0) <|
  xAK rfl (xC1 (ok_callV (xdd xB_202 dX11_homeIn_50) rfl xq_9 rfl xp_174_1 q1829 q1831 qs77 q124 q1832) xC0) <|
  xA0 (ok_goto (xdd xB_202 dX11_homeIn_53) rfl) <|
  xA0 (ok_aload_n (xdd xB_202 dX11_homeIn_56) rfl rfl) <|
  xA0 (ok_iconst (xdd xB_202 dX11_homeIn_57) rfl rfl (xrg rfl)) <|
  xAK rfl (xC1 (ok_callV (xdd xB_202 dX11_homeIn_58) rfl xq_9 rfl xp_142_1 q1533 q1535 qs49 q124 q1536) xC0) <|
  xAR (ok_ireturn (xdd xB_202 dX11_homeIn_61) rfl) <|
  xAe
theorem xe_202 {s0 : State} {A0 : Array Value} {D : va_G} {ta : Nat → ClassId} {l : Launch} : XAllC s0 A0 D ta l 202 xk_202 := ⟨xe_202_0, xe_202_1, trivial⟩
theorem xe_203_0 {s0 : State} {A0 : Array Value} {D : va_G} {ta : Nat → ClassId} {l : Launch} : XAll s0 A0 D ta l 203 xk_203_0 :=
  xA0 (ok_aload_n (xdd xB_203 dX11_fits_0) rfl rfl) <|
  xA0 (ok_iconst (xdd xB_203 dX11_fits_1) rfl rfl (xrg rfl)) <|
  xA1 (ok_putI (xdd xB_203 dX11_fits_2) rfl (lk_f q1403) rfl xfd_66 (Or.inl rfl)) <|
  xA0 (ok_aload_n (xdd xB_203 dX11_fits_5) rfl rfl) <|
  xA1 (ok_getA (xdd xB_203 dX11_fits_6) rfl (lk_f q1406) rfl) <|
  xAB (ok_ifnonnull (xdd xB_203 dX11_fits_9) rfl rfl) <|
  xA0 (ok_aload_n (xdd xB_203 dX11_fits_12) rfl rfl) <|
  xA0 (ok_iconst (xdd xB_203 dX11_fits_13) rfl rfl (xrg rfl)) <|
  xAK rfl (xC1 (ok_callV (xdd xB_203 dX11_fits_14) rfl xq_9 rfl xp_142_1 q1533 q1535 qs49 q124 q1536) xC0) <|
  xAR (ok_ireturn (xdd xB_203 dX11_fits_17) rfl) <|
  xA0 (ok_aload_n (xdd xB_203 dX11_fits_18) rfl rfl) <|
  xAK rfl (xC1 (ok_callV (xdd xB_203 dX11_fits_19) rfl xq_9 rfl xp_204_0 q1953 q1955 qs89 q124 q1956) xC0) <|
  xA0 (ok_aload_n (xdd xB_203 dX11_fits_22) rfl rfl) <|
  xA0 (ok_aload_n (xdd xB_203 dX11_fits_23) rfl rfl) <|
  xA1 (ok_getI (xdd xB_203 dX11_fits_24) rfl (lk_f q1434) (by decide)) <|
  xAK rfl (xC1 (ok_callV (xdd xB_203 dX11_fits_27) rfl xq_9 rfl xp_174_1 q1829 q1831 qs77 q124 q1832) xC0) <|
  xAR (ok_ireturn (xdd xB_203 dX11_fits_30) rfl) <|
  xAe
theorem xe_203 {s0 : State} {A0 : Array Value} {D : va_G} {ta : Nat → ClassId} {l : Launch} : XAllC s0 A0 D ta l 203 xk_203 := ⟨xe_203_0, trivial⟩
theorem xe_204_0 {s0 : State} {A0 : Array Value} {D : va_G} {ta : Nat → ClassId} {l : Launch} : XAll s0 A0 D ta l 204 xk_204_0 :=
  xA0 (ok_aload_n (xdd xB_204 dX11_fitting_0) rfl rfl) <|
  xA0 (ok_iconst (xdd xB_204 dX11_fitting_1) rfl rfl (xrg rfl)) <|
  xA1 (ok_putI (xdd xB_204 dX11_fitting_2) rfl (lk_f q1433) rfl xfd_96 (Or.inl rfl)) <|
  xA0 (ok_aload_n (xdd xB_204 dX11_fitting_5) rfl rfl) <|
  xA0 (ok_iconst (xdd xB_204 dX11_fitting_6) rfl rfl (xrg rfl)) <|
  xA1 (ok_putI (xdd xB_204 dX11_fitting_7) rfl (lk_f q1434) rfl xfd_97 (Or.inl rfl)) <|
  xA0 (ok_iconst (xdd xB_204 dX11_fitting_10) rfl rfl (xrg rfl)) <|
  xA0 (ok_istore_n (xdd xB_204 dX11_fitting_11) rfl rfl) <|
  xA0 (ok_iload_n (xdd xB_204 dX11_fitting_12) rfl rfl) <|
  xA0 (ok_bipush (xdd xB_204 dX11_fitting_13) rfl rfl (xrg rfl)) <|
  xAB (ok_icmp_ge (xdd xB_204 dX11_fitting_15) rfl rfl) <|
  xA0 (ok_aload_n (xdd xB_204 dX11_fitting_18) rfl rfl) <|
  xA1 (ok_getA (xdd xB_204 dX11_fitting_19) rfl (lk_f q1432) rfl) <|
  xA0 (ok_iload_n (xdd xB_204 dX11_fitting_22) rfl rfl) <|
  xA0 (ok_iconst (xdd xB_204 dX11_fitting_23) rfl rfl (xrg rfl)) <|
  xA1 (ok_iastore (xdd xB_204 dX11_fitting_24) rfl) <|
  xA1 (ok_iinc (xdd xB_204 dX11_fitting_25) rfl) <|
  xA0 (ok_goto (xdd xB_204 dX11_fitting_28) rfl) <|
  xA0 (ok_iconst (xdd xB_204 dX11_fitting_31) rfl rfl (xrg rfl)) <|
  xAe
theorem xe_204_1 {s0 : State} {A0 : Array Value} {D : va_G} {ta : Nat → ClassId} {l : Launch} : XAll s0 A0 D ta l 204 xk_204_1 :=
  xA0 (ok_istore_n (xdd xB_204 dX11_fitting_32) rfl rfl) <|
  xA0 (ok_iload_n (xdd xB_204 dX11_fitting_33) rfl rfl) <|
  xA0 (ok_aload_n (xdd xB_204 dX11_fitting_34) rfl rfl) <|
  xA1 (ok_getA (xdd xB_204 dX11_fitting_35) rfl (lk_f q1406) rfl) <|
  xA1 (ok_getI (xdd xB_204 dX11_fitting_38) rfl (lk_n q1546) (by decide)) <|
  xAB (ok_icmp_ge (xdd xB_204 dX11_fitting_41) rfl rfl) <|
  xA0 (ok_aload_n (xdd xB_204 dX11_fitting_44) rfl rfl) <|
  xA1 (ok_getA (xdd xB_204 dX11_fitting_45) rfl (lk_f q1430) rfl) <|
  xA0 (ok_iload_n (xdd xB_204 dX11_fitting_48) rfl rfl) <|
  xA0 (ok_aload_n (xdd xB_204 dX11_fitting_49) rfl rfl) <|
  xA1 (ok_getA (xdd xB_204 dX11_fitting_50) rfl (lk_f q1418) rfl) <|
  xA0 (ok_iconst (xdd xB_204 dX11_fitting_53) rfl rfl (xrg rfl)) <|
  xA0 (ok_iload_n (xdd xB_204 dX11_fitting_54) rfl rfl) <|
  xA1 (ok_iadd (xdd xB_204 dX11_fitting_55) rfl) <|
  xA1 (ok_iaload (xdd xB_204 dX11_fitting_56) rfl) <|
  xA1 (ok_iastore (xdd xB_204 dX11_fitting_57) rfl) <|
  xA0 (ok_aload_n (xdd xB_204 dX11_fitting_58) rfl rfl) <|
  xA1 (ok_getA (xdd xB_204 dX11_fitting_59) rfl (lk_f q1430) rfl) <|
  xA0 (ok_iload_n (xdd xB_204 dX11_fitting_62) rfl rfl) <|
  xA1 (ok_iaload (xdd xB_204 dX11_fitting_63) rfl) <|
  xAe
theorem xe_204_2 {s0 : State} {A0 : Array Value} {D : va_G} {ta : Nat → ClassId} {l : Launch} : XAll s0 A0 D ta l 204 xk_204_2 :=
  xA0 (ok_bipush (xdd xB_204 dX11_fitting_64) rfl rfl (xrg rfl)) <|
  xAB (ok_icmp_eq (xdd xB_204 dX11_fitting_66) rfl rfl) <|
  xA0 (ok_goto (xdd xB_204 dX11_fitting_69) rfl) <|
  xA0 (ok_aload_n (xdd xB_204 dX11_fitting_72) rfl rfl) <|
  xA1 (ok_getA (xdd xB_204 dX11_fitting_73) rfl (lk_f q1429) rfl) <|
  xA0 (ok_aload_n (xdd xB_204 dX11_fitting_76) rfl rfl) <|
  xA1 (ok_getI (xdd xB_204 dX11_fitting_77) rfl (lk_f q1433) (by decide)) <|
  xA0 (ok_iload_n (xdd xB_204 dX11_fitting_80) rfl rfl) <|
  xA1 (ok_iastore (xdd xB_204 dX11_fitting_81) rfl) <|
  xA0 (ok_aload_n (xdd xB_204 dX11_fitting_82) rfl rfl) <|
  xA0 (ok_dup (xdd xB_204 dX11_fitting_83) rfl) <|
  xA1 (ok_getI (xdd xB_204 dX11_fitting_84) rfl (lk_f q1433) (by decide)) <|
  xA0 (ok_iconst (xdd xB_204 dX11_fitting_87) rfl rfl (xrg rfl)) <|
  xA1 (ok_iadd (xdd xB_204 dX11_fitting_88) rfl) <|
  xA1 (ok_putI (xdd xB_204 dX11_fitting_89) rfl (lk_f q1433) rfl xfd_96 (Or.inl rfl)) <|
  xA1 (ok_iinc (xdd xB_204 dX11_fitting_92) rfl) <|
  xA0 (ok_goto (xdd xB_204 dX11_fitting_95) rfl) <|
  xAe
theorem xe_204_3 {s0 : State} {A0 : Array Value} {D : va_G} {ta : Nat → ClassId} {l : Launch} : XAll s0 A0 D ta l 204 xk_204_3 :=
  xA0 (ok_aload_n (xdd xB_204 dX11_fitting_98) rfl rfl) <|
  xA1 (ok_getI (xdd xB_204 dX11_fitting_99) rfl (lk_f q1433) (by decide)) <|
  xAB (ok_if_ne (xdd xB_204 dX11_fitting_102) rfl rfl) <|
  xA0 (ok_aload_n (xdd xB_204 dX11_fitting_105) rfl rfl) <|
  xAK rfl (xC1 (ok_callV (xdd xB_204 dX11_fitting_106) rfl xq_9 rfl xp_205_0 q1957 q1959 qs90 q124 q1960) xC0) <|
  xAR (ok_vreturn (xdd xB_204 dX11_fitting_109) rfl) <|
  xA0 (ok_iconst (xdd xB_204 dX11_fitting_110) rfl rfl (xrg rfl)) <|
  xA0 (ok_istore_n (xdd xB_204 dX11_fitting_111) rfl rfl) <|
  xA0 (ok_aload_n (xdd xB_204 dX11_fitting_112) rfl rfl) <|
  xA1 (ok_getA (xdd xB_204 dX11_fitting_113) rfl (lk_f q1430) rfl) <|
  xA0 (ok_aload_n (xdd xB_204 dX11_fitting_116) rfl rfl) <|
  xA1 (ok_getA (xdd xB_204 dX11_fitting_117) rfl (lk_f q1429) rfl) <|
  xA0 (ok_iconst (xdd xB_204 dX11_fitting_120) rfl rfl (xrg rfl)) <|
  xA1 (ok_iaload (xdd xB_204 dX11_fitting_121) rfl) <|
  xA0 (ok_iconst (xdd xB_204 dX11_fitting_122) rfl rfl (xrg rfl)) <|
  xA1 (ok_iastore (xdd xB_204 dX11_fitting_123) rfl) <|
  xA0 (ok_iload_n (xdd xB_204 dX11_fitting_124) rfl rfl) <|
  xAB (ok_if_lt (xdd xB_204 dX11_fitting_125) rfl rfl) <|
  xAe
theorem xe_204_4 {s0 : State} {A0 : Array Value} {D : va_G} {ta : Nat → ClassId} {l : Launch} : XAll s0 A0 D ta l 204 xk_204_4 :=
  xA0 (ok_aload_n (xdd xB_204 dX11_fitting_128) rfl rfl) <|
  xA1 (ok_getA (xdd xB_204 dX11_fitting_129) rfl (lk_f q1429) rfl) <|
  xA0 (ok_iload_n (xdd xB_204 dX11_fitting_132) rfl rfl) <|
  xA1 (ok_iaload (xdd xB_204 dX11_fitting_133) rfl) <|
  xA0 (ok_istore_n (xdd xB_204 dX11_fitting_134) rfl rfl) <|
  xA0 (ok_aload_n (xdd xB_204 dX11_fitting_135) rfl rfl) <|
  xA1 (ok_getA (xdd xB_204 dX11_fitting_136) rfl (lk_f q1430) rfl) <|
  xA0 (ok_iload_n (xdd xB_204 dX11_fitting_139) rfl rfl) <|
  xA0 (ok_dup2 (xdd xB_204 dX11_fitting_140) rfl) <|
  xA1 (ok_iaload (xdd xB_204 dX11_fitting_141) rfl) <|
  xA0 (ok_iconst (xdd xB_204 dX11_fitting_142) rfl rfl (xrg rfl)) <|
  xA1 (ok_iadd (xdd xB_204 dX11_fitting_143) rfl) <|
  xA1 (ok_iastore (xdd xB_204 dX11_fitting_144) rfl) <|
  xA0 (ok_aload_n (xdd xB_204 dX11_fitting_145) rfl rfl) <|
  xA1 (ok_getA (xdd xB_204 dX11_fitting_146) rfl (lk_f q1430) rfl) <|
  xA0 (ok_iload_n (xdd xB_204 dX11_fitting_149) rfl rfl) <|
  xA1 (ok_iaload (xdd xB_204 dX11_fitting_150) rfl) <|
  xA0 (ok_aload_n (xdd xB_204 dX11_fitting_151) rfl rfl) <|
  xA1 (ok_getA (xdd xB_204 dX11_fitting_152) rfl (lk_f q1406) rfl) <|
  xA1 (ok_getI (xdd xB_204 dX11_fitting_155) rfl (lk_n q1546) (by decide)) <|
  xAB (ok_icmp_ge (xdd xB_204 dX11_fitting_158) rfl rfl) <|
  xAe
theorem xe_204_5 {s0 : State} {A0 : Array Value} {D : va_G} {ta : Nat → ClassId} {l : Launch} : XAll s0 A0 D ta l 204 xk_204_5 :=
  xA0 (ok_aload_n (xdd xB_204 dX11_fitting_161) rfl rfl) <|
  xA0 (ok_iload_n (xdd xB_204 dX11_fitting_162) rfl rfl) <|
  xAK rfl (xC1 (ok_callV (xdd xB_204 dX11_fitting_163) rfl xq_9 rfl xp_206_1 q1961 q1963 qs91 q124 q1964) xC0) <|
  xAB (ok_if_ne (xdd xB_204 dX11_fitting_166) rfl rfl) <|
  xA0 (ok_aload_n (xdd xB_204 dX11_fitting_169) rfl rfl) <|
  xA1 (ok_getA (xdd xB_204 dX11_fitting_170) rfl (lk_f q1430) rfl) <|
  xA0 (ok_iload_n (xdd xB_204 dX11_fitting_173) rfl rfl) <|
  xA0 (ok_dup2 (xdd xB_204 dX11_fitting_174) rfl) <|
  xA1 (ok_iaload (xdd xB_204 dX11_fitting_175) rfl) <|
  xA0 (ok_iconst (xdd xB_204 dX11_fitting_176) rfl rfl (xrg rfl)) <|
  xA1 (ok_iadd (xdd xB_204 dX11_fitting_177) rfl) <|
  xA1 (ok_iastore (xdd xB_204 dX11_fitting_178) rfl) <|
  xA0 (ok_goto (xdd xB_204 dX11_fitting_179) rfl) <|
  xA0 (ok_aload_n (xdd xB_204 dX11_fitting_182) rfl rfl) <|
  xA1 (ok_getA (xdd xB_204 dX11_fitting_183) rfl (lk_f q1430) rfl) <|
  xA0 (ok_iload_n (xdd xB_204 dX11_fitting_186) rfl rfl) <|
  xA1 (ok_iaload (xdd xB_204 dX11_fitting_187) rfl) <|
  xA0 (ok_aload_n (xdd xB_204 dX11_fitting_188) rfl rfl) <|
  xA1 (ok_getA (xdd xB_204 dX11_fitting_189) rfl (lk_f q1406) rfl) <|
  xAe
theorem xe_204_6 {s0 : State} {A0 : Array Value} {D : va_G} {ta : Nat → ClassId} {l : Launch} : XAll s0 A0 D ta l 204 xk_204_6 :=
  xA1 (ok_getI (xdd xB_204 dX11_fitting_192) rfl (lk_n q1546) (by decide)) <|
  xAB (ok_icmp_lt (xdd xB_204 dX11_fitting_195) rfl rfl) <|
  xA0 (ok_aload_n (xdd xB_204 dX11_fitting_198) rfl rfl) <|
  xA1 (ok_getA (xdd xB_204 dX11_fitting_199) rfl (lk_f q1430) rfl) <|
  xA0 (ok_iload_n (xdd xB_204 dX11_fitting_202) rfl rfl) <|
  xA0 (ok_bipush (xdd xB_204 dX11_fitting_203) rfl rfl (xrg rfl)) <|
  xA1 (ok_iastore (xdd xB_204 dX11_fitting_205) rfl) <|
  xA1 (ok_iinc (xdd xB_204 dX11_fitting_206) rfl) <|
  xA0 (ok_goto (xdd xB_204 dX11_fitting_209) rfl) <|
  xA0 (ok_iload_n (xdd xB_204 dX11_fitting_212) rfl rfl) <|
  xA0 (ok_iconst (xdd xB_204 dX11_fitting_213) rfl rfl (xrg rfl)) <|
  xA1 (ok_iadd (xdd xB_204 dX11_fitting_214) rfl) <|
  xA0 (ok_aload_n (xdd xB_204 dX11_fitting_215) rfl rfl) <|
  xA1 (ok_getI (xdd xB_204 dX11_fitting_216) rfl (lk_f q1433) (by decide)) <|
  xAB (ok_icmp_ge (xdd xB_204 dX11_fitting_219) rfl rfl) <|
  xA1 (ok_iinc (xdd xB_204 dX11_fitting_222) rfl) <|
  xAe
theorem xe_204_7 {s0 : State} {A0 : Array Value} {D : va_G} {ta : Nat → ClassId} {l : Launch} : XAll s0 A0 D ta l 204 xk_204_7 :=
  xA0 (ok_aload_n (xdd xB_204 dX11_fitting_225) rfl rfl) <|
  xA1 (ok_getA (xdd xB_204 dX11_fitting_226) rfl (lk_f q1430) rfl) <|
  xA0 (ok_aload_n (xdd xB_204 dX11_fitting_229) rfl rfl) <|
  xA1 (ok_getA (xdd xB_204 dX11_fitting_230) rfl (lk_f q1429) rfl) <|
  xA0 (ok_iload_n (xdd xB_204 dX11_fitting_233) rfl rfl) <|
  xA1 (ok_iaload (xdd xB_204 dX11_fitting_234) rfl) <|
  xA0 (ok_iconst (xdd xB_204 dX11_fitting_235) rfl rfl (xrg rfl)) <|
  xA1 (ok_iastore (xdd xB_204 dX11_fitting_236) rfl) <|
  xA0 (ok_goto (xdd xB_204 dX11_fitting_237) rfl) <|
  xA0 (ok_aload_n (xdd xB_204 dX11_fitting_240) rfl rfl) <|
  xAK rfl (xC1 (ok_callV (xdd xB_204 dX11_fitting_241) rfl xq_9 rfl xp_205_0 q1957 q1959 qs90 q124 q1960) xC0) <|
  xA0 (ok_goto (xdd xB_204 dX11_fitting_244) rfl) <|
  xAR (ok_vreturn (xdd xB_204 dX11_fitting_247) rfl) <|
  xAe
theorem xe_204 {s0 : State} {A0 : Array Value} {D : va_G} {ta : Nat → ClassId} {l : Launch} : XAllC s0 A0 D ta l 204 xk_204 := ⟨xe_204_0, xe_204_1, xe_204_2, xe_204_3, xe_204_4, xe_204_5, xe_204_6, xe_204_7, trivial⟩
theorem xe_205_0 {s0 : State} {A0 : Array Value} {D : va_G} {ta : Nat → ClassId} {l : Launch} : XAll s0 A0 D ta l 205 xk_205_0 :=
  xA0 (ok_iconst (xdd xB_205 dX11_countsRow_0) rfl rfl (xrg rfl)) <|
  xA0 (ok_istore_n (xdd xB_205 dX11_countsRow_1) rfl rfl) <|
  xA0 (ok_iload_n (xdd xB_205 dX11_countsRow_2) rfl rfl) <|
  xA0 (ok_aload_n (xdd xB_205 dX11_countsRow_3) rfl rfl) <|
  xA1 (ok_getA (xdd xB_205 dX11_countsRow_4) rfl (lk_f q1406) rfl) <|
  xA1 (ok_getI (xdd xB_205 dX11_countsRow_7) rfl (lk_n q1546) (by decide)) <|
  xAB (ok_icmp_ge (xdd xB_205 dX11_countsRow_10) rfl rfl) <|
  xA0 (ok_aload_n (xdd xB_205 dX11_countsRow_13) rfl rfl) <|
  xA1 (ok_getA (xdd xB_205 dX11_countsRow_14) rfl (lk_f q1432) rfl) <|
  xA0 (ok_bipush (xdd xB_205 dX11_countsRow_17) rfl rfl (xrg rfl)) <|
  xA0 (ok_iload_n (xdd xB_205 dX11_countsRow_19) rfl rfl) <|
  xA1 (ok_imul (xdd xB_205 dX11_countsRow_20) rfl) <|
  xA0 (ok_aload_n (xdd xB_205 dX11_countsRow_21) rfl rfl) <|
  xA1 (ok_getA (xdd xB_205 dX11_countsRow_22) rfl (lk_f q1430) rfl) <|
  xA0 (ok_iload_n (xdd xB_205 dX11_countsRow_25) rfl rfl) <|
  xA1 (ok_iaload (xdd xB_205 dX11_countsRow_26) rfl) <|
  xA1 (ok_iadd (xdd xB_205 dX11_countsRow_27) rfl) <|
  xA0 (ok_dup2 (xdd xB_205 dX11_countsRow_28) rfl) <|
  xA1 (ok_iaload (xdd xB_205 dX11_countsRow_29) rfl) <|
  xA0 (ok_iconst (xdd xB_205 dX11_countsRow_30) rfl rfl (xrg rfl)) <|
  xA1 (ok_iadd (xdd xB_205 dX11_countsRow_31) rfl) <|
  xAe
theorem xe_205_1 {s0 : State} {A0 : Array Value} {D : va_G} {ta : Nat → ClassId} {l : Launch} : XAll s0 A0 D ta l 205 xk_205_1 :=
  xA1 (ok_iastore (xdd xB_205 dX11_countsRow_32) rfl) <|
  xA0 (ok_aload_n (xdd xB_205 dX11_countsRow_33) rfl rfl) <|
  xA1 (ok_getI (xdd xB_205 dX11_countsRow_34) rfl (lk_f q1434) (by decide)) <|
  xAB (ok_if_ne (xdd xB_205 dX11_countsRow_37) rfl rfl) <|
  xA0 (ok_aload_n (xdd xB_205 dX11_countsRow_40) rfl rfl) <|
  xA1 (ok_getA (xdd xB_205 dX11_countsRow_41) rfl (lk_f q1431) rfl) <|
  xA0 (ok_iload_n (xdd xB_205 dX11_countsRow_44) rfl rfl) <|
  xA0 (ok_aload_n (xdd xB_205 dX11_countsRow_45) rfl rfl) <|
  xA1 (ok_getA (xdd xB_205 dX11_countsRow_46) rfl (lk_f q1430) rfl) <|
  xA0 (ok_iload_n (xdd xB_205 dX11_countsRow_49) rfl rfl) <|
  xA1 (ok_iaload (xdd xB_205 dX11_countsRow_50) rfl) <|
  xA1 (ok_iastore (xdd xB_205 dX11_countsRow_51) rfl) <|
  xA1 (ok_iinc (xdd xB_205 dX11_countsRow_52) rfl) <|
  xA0 (ok_goto (xdd xB_205 dX11_countsRow_55) rfl) <|
  xA0 (ok_aload_n (xdd xB_205 dX11_countsRow_58) rfl rfl) <|
  xA0 (ok_dup (xdd xB_205 dX11_countsRow_59) rfl) <|
  xA1 (ok_getI (xdd xB_205 dX11_countsRow_60) rfl (lk_f q1434) (by decide)) <|
  xA0 (ok_iconst (xdd xB_205 dX11_countsRow_63) rfl rfl (xrg rfl)) <|
  xAe
theorem xe_205_2 {s0 : State} {A0 : Array Value} {D : va_G} {ta : Nat → ClassId} {l : Launch} : XAll s0 A0 D ta l 205 xk_205_2 :=
  xA1 (ok_iadd (xdd xB_205 dX11_countsRow_64) rfl) <|
  xA1 (ok_putI (xdd xB_205 dX11_countsRow_65) rfl (lk_f q1434) rfl xfd_97 (Or.inl rfl)) <|
  xAR (ok_vreturn (xdd xB_205 dX11_countsRow_68) rfl) <|
  xAe
theorem xe_205 {s0 : State} {A0 : Array Value} {D : va_G} {ta : Nat → ClassId} {l : Launch} : XAllC s0 A0 D ta l 205 xk_205 := ⟨xe_205_0, xe_205_1, xe_205_2, trivial⟩
theorem xe_206_0 {s0 : State} {A0 : Array Value} {D : va_G} {ta : Nat → ClassId} {l : Launch} : XAll s0 A0 D ta l 206 xk_206_0 :=
  xA0 (ok_iconst (xdd xB_206 dX11_isFitting_0) rfl rfl (xrg rfl)) <|
  xA0 (ok_istore_n (xdd xB_206 dX11_isFitting_1) rfl rfl) <|
  xA0 (ok_iload_n (xdd xB_206 dX11_isFitting_2) rfl rfl) <|
  xA0 (ok_aload_n (xdd xB_206 dX11_isFitting_3) rfl rfl) <|
  xA1 (ok_getA (xdd xB_206 dX11_isFitting_4) rfl (lk_f q1406) rfl) <|
  xA1 (ok_getI (xdd xB_206 dX11_isFitting_7) rfl (lk_n q1546) (by decide)) <|
  xAB (ok_icmp_ge (xdd xB_206 dX11_isFitting_10) rfl rfl) <|
  xA0 (ok_iload_n (xdd xB_206 dX11_isFitting_13) rfl rfl) <|
  xA0 (ok_iload_n (xdd xB_206 dX11_isFitting_14) rfl rfl) <|
  xAB (ok_icmp_eq (xdd xB_206 dX11_isFitting_15) rfl rfl) <|
  xA0 (ok_aload_n (xdd xB_206 dX11_isFitting_18) rfl rfl) <|
  xA1 (ok_getA (xdd xB_206 dX11_isFitting_19) rfl (lk_f q1430) rfl) <|
  xA0 (ok_iload_n (xdd xB_206 dX11_isFitting_22) rfl rfl) <|
  xA1 (ok_iaload (xdd xB_206 dX11_isFitting_23) rfl) <|
  xA0 (ok_aload_n (xdd xB_206 dX11_isFitting_24) rfl rfl) <|
  xA1 (ok_getA (xdd xB_206 dX11_isFitting_25) rfl (lk_f q1430) rfl) <|
  xA0 (ok_iload_n (xdd xB_206 dX11_isFitting_28) rfl rfl) <|
  xA1 (ok_iaload (xdd xB_206 dX11_isFitting_29) rfl) <|
  xAB (ok_icmp_ne (xdd xB_206 dX11_isFitting_30) rfl rfl) <|
  xAe
theorem xe_206_1 {s0 : State} {A0 : Array Value} {D : va_G} {ta : Nat → ClassId} {l : Launch} : XAll s0 A0 D ta l 206 xk_206_1 :=
  xA0 (ok_iconst (xdd xB_206 dX11_isFitting_33) rfl rfl (xrg rfl)) <|
  xAR (ok_zreturn (xdd xB_206 dX11_isFitting_34) rfl) <|
  xA1 (ok_iinc (xdd xB_206 dX11_isFitting_35) rfl) <|
  xA0 (ok_goto (xdd xB_206 dX11_isFitting_38) rfl) <|
  xA0 (ok_aload_n (xdd xB_206 dX11_isFitting_41) rfl rfl) <|
  xA1 (ok_getA (xdd xB_206 dX11_isFitting_42) rfl (lk_f q1406) rfl) <|
  xA0 (ok_iload_n (xdd xB_206 dX11_isFitting_45) rfl rfl) <|
  xA0 (ok_aload_n (xdd xB_206 dX11_isFitting_46) rfl rfl) <|
  xA1 (ok_getA (xdd xB_206 dX11_isFitting_47) rfl (lk_f q1430) rfl) <|
  xA0 (ok_iload_n (xdd xB_206 dX11_isFitting_50) rfl rfl) <|
  xA1 (ok_iaload (xdd xB_206 dX11_isFitting_51) rfl) <|
  xAK rfl (xC1 (ok_callV (xdd xB_206 dX11_isFitting_52) rfl xq_15 rfl xp_296_2 q1965 q1966 q1967 q137 q1968) xC0) <|
  xAR (ok_zreturn (xdd xB_206 dX11_isFitting_55) rfl) <|
  xAe
theorem xe_206 {s0 : State} {A0 : Array Value} {D : va_G} {ta : Nat → ClassId} {l : Launch} : XAllC s0 A0 D ta l 206 xk_206 := ⟨xe_206_0, xe_206_1, trivial⟩
theorem xe_207_0 {s0 : State} {A0 : Array Value} {D : va_G} {ta : Nat → ClassId} {l : Launch} : XAll s0 A0 D ta l 207 xk_207_0 :=
  xA0 (ok_aload_n (xdd xB_207 dX11_could_0) rfl rfl) <|
  xA0 (ok_iconst (xdd xB_207 dX11_could_1) rfl rfl (xrg rfl)) <|
  xA1 (ok_putI (xdd xB_207 dX11_could_2) rfl (lk_f q1403) rfl xfd_66 (Or.inl rfl)) <|
  xA0 (ok_aload_n (xdd xB_207 dX11_could_5) rfl rfl) <|
  xA0 (ok_iload_n (xdd xB_207 dX11_could_6) rfl rfl) <|
  xAK rfl (xC1 (ok_callV (xdd xB_207 dX11_could_7) rfl xq_9 rfl xp_178_1 q1845 q1847 qs78 q124 q1848) xC0) <|
  xAB (ok_if_ne (xdd xB_207 dX11_could_10) rfl rfl) <|
  xA0 (ok_aload_n (xdd xB_207 dX11_could_13) rfl rfl) <|
  xA0 (ok_iconst (xdd xB_207 dX11_could_14) rfl rfl (xrg rfl)) <|
  xAK rfl (xC1 (ok_callV (xdd xB_207 dX11_could_15) rfl xq_9 rfl xp_142_1 q1533 q1535 qs49 q124 q1536) xC0) <|
  xAR (ok_ireturn (xdd xB_207 dX11_could_18) rfl) <|
  xA0 (ok_aload_n (xdd xB_207 dX11_could_19) rfl rfl) <|
  xAK rfl (xC1 (ok_callV (xdd xB_207 dX11_could_20) rfl xq_9 rfl xp_204_0 q1953 q1955 qs89 q124 q1956) xC0) <|
  xA0 (ok_iconst (xdd xB_207 dX11_could_23) rfl rfl (xrg rfl)) <|
  xA0 (ok_istore_n (xdd xB_207 dX11_could_24) rfl rfl) <|
  xA0 (ok_iconst (xdd xB_207 dX11_could_25) rfl rfl (xrg rfl)) <|
  xA0 (ok_istore_n (xdd xB_207 dX11_could_26) rfl rfl) <|
  xA0 (ok_iload_n (xdd xB_207 dX11_could_27) rfl rfl) <|
  xA0 (ok_aload_n (xdd xB_207 dX11_could_28) rfl rfl) <|
  xA1 (ok_getA (xdd xB_207 dX11_could_29) rfl (lk_f q1406) rfl) <|
  xAe
theorem xe_207_1 {s0 : State} {A0 : Array Value} {D : va_G} {ta : Nat → ClassId} {l : Launch} : XAll s0 A0 D ta l 207 xk_207_1 :=
  xA1 (ok_getI (xdd xB_207 dX11_could_32) rfl (lk_n q1546) (by decide)) <|
  xAB (ok_icmp_ge (xdd xB_207 dX11_could_35) rfl rfl) <|
  xA0 (ok_iload_n (xdd xB_207 dX11_could_38) rfl rfl) <|
  xA0 (ok_aload_n (xdd xB_207 dX11_could_39) rfl rfl) <|
  xA1 (ok_getA (xdd xB_207 dX11_could_40) rfl (lk_f q1432) rfl) <|
  xA0 (ok_bipush (xdd xB_207 dX11_could_43) rfl rfl (xrg rfl)) <|
  xA0 (ok_iload_n (xdd xB_207 dX11_could_45) rfl rfl) <|
  xA1 (ok_imul (xdd xB_207 dX11_could_46) rfl) <|
  xA0 (ok_iload_n (xdd xB_207 dX11_could_47) rfl rfl) <|
  xA1 (ok_iadd (xdd xB_207 dX11_could_48) rfl) <|
  xA1 (ok_iaload (xdd xB_207 dX11_could_49) rfl) <|
  xAB (ok_if_le (xdd xB_207 dX11_could_50) rfl rfl) <|
  xA0 (ok_iconst (xdd xB_207 dX11_could_53) rfl rfl (xrg rfl)) <|
  xA0 (ok_iload_n (xdd xB_207 dX11_could_54) rfl rfl) <|
  xA1 (ok_ishl (xdd xB_207 dX11_could_55) rfl) <|
  xA0 (ok_goto (xdd xB_207 dX11_could_56) rfl) <|
  xA0 (ok_iconst (xdd xB_207 dX11_could_59) rfl rfl (xrg rfl)) <|
  xA0 (ok_ior (xdd xB_207 dX11_could_60) rfl) <|
  xA0 (ok_istore_n (xdd xB_207 dX11_could_61) rfl rfl) <|
  xA1 (ok_iinc (xdd xB_207 dX11_could_62) rfl) <|
  xAe
theorem xe_207_2 {s0 : State} {A0 : Array Value} {D : va_G} {ta : Nat → ClassId} {l : Launch} : XAll s0 A0 D ta l 207 xk_207_2 :=
  xA0 (ok_goto (xdd xB_207 dX11_could_65) rfl) <|
  xA0 (ok_aload_n (xdd xB_207 dX11_could_68) rfl rfl) <|
  xA0 (ok_iload_n (xdd xB_207 dX11_could_69) rfl rfl) <|
  xAK rfl (xC1 (ok_callV (xdd xB_207 dX11_could_70) rfl xq_9 rfl xp_174_1 q1829 q1831 qs77 q124 q1832) xC0) <|
  xAR (ok_ireturn (xdd xB_207 dX11_could_73) rfl) <|
  xAe
theorem xe_207 {s0 : State} {A0 : Array Value} {D : va_G} {ta : Nat → ClassId} {l : Launch} : XAllC s0 A0 D ta l 207 xk_207 := ⟨xe_207_0, xe_207_1, xe_207_2, trivial⟩
theorem xe_208_0 {s0 : State} {A0 : Array Value} {D : va_G} {ta : Nat → ClassId} {l : Launch} : XAll s0 A0 D ta l 208 xk_208_0 :=
  xA0 (ok_aload_n (xdd xB_208 dX11_surely_0) rfl rfl) <|
  xA0 (ok_iconst (xdd xB_208 dX11_surely_1) rfl rfl (xrg rfl)) <|
  xA1 (ok_putI (xdd xB_208 dX11_surely_2) rfl (lk_f q1403) rfl xfd_66 (Or.inl rfl)) <|
  xA0 (ok_aload_n (xdd xB_208 dX11_surely_5) rfl rfl) <|
  xA0 (ok_iload_n (xdd xB_208 dX11_surely_6) rfl rfl) <|
  xAK rfl (xC1 (ok_callV (xdd xB_208 dX11_surely_7) rfl xq_9 rfl xp_178_1 q1845 q1847 qs78 q124 q1848) xC0) <|
  xAB (ok_if_ne (xdd xB_208 dX11_surely_10) rfl rfl) <|
  xA0 (ok_aload_n (xdd xB_208 dX11_surely_13) rfl rfl) <|
  xA0 (ok_iconst (xdd xB_208 dX11_surely_14) rfl rfl (xrg rfl)) <|
  xAK rfl (xC1 (ok_callV (xdd xB_208 dX11_surely_15) rfl xq_9 rfl xp_142_1 q1533 q1535 qs49 q124 q1536) xC0) <|
  xAR (ok_ireturn (xdd xB_208 dX11_surely_18) rfl) <|
  xA0 (ok_aload_n (xdd xB_208 dX11_surely_19) rfl rfl) <|
  xAK rfl (xC1 (ok_callV (xdd xB_208 dX11_surely_20) rfl xq_9 rfl xp_204_0 q1953 q1955 qs89 q124 q1956) xC0) <|
  xA0 (ok_iconst (xdd xB_208 dX11_surely_23) rfl rfl (xrg rfl)) <|
  xA0 (ok_istore_n (xdd xB_208 dX11_surely_24) rfl rfl) <|
  xA0 (ok_iload_n (xdd xB_208 dX11_surely_25) rfl rfl) <|
  xA0 (ok_aload_n (xdd xB_208 dX11_surely_26) rfl rfl) <|
  xA1 (ok_getA (xdd xB_208 dX11_surely_27) rfl (lk_f q1406) rfl) <|
  xA1 (ok_getI (xdd xB_208 dX11_surely_30) rfl (lk_n q1546) (by decide)) <|
  xAe
theorem xe_208_1 {s0 : State} {A0 : Array Value} {D : va_G} {ta : Nat → ClassId} {l : Launch} : XAll s0 A0 D ta l 208 xk_208_1 :=
  xAB (ok_icmp_ge (xdd xB_208 dX11_surely_33) rfl rfl) <|
  xA0 (ok_aload_n (xdd xB_208 dX11_surely_36) rfl rfl) <|
  xA1 (ok_getI (xdd xB_208 dX11_surely_37) rfl (lk_f q1434) (by decide)) <|
  xAB (ok_if_le (xdd xB_208 dX11_surely_40) rfl rfl) <|
  xA0 (ok_aload_n (xdd xB_208 dX11_surely_43) rfl rfl) <|
  xA1 (ok_getA (xdd xB_208 dX11_surely_44) rfl (lk_f q1432) rfl) <|
  xA0 (ok_bipush (xdd xB_208 dX11_surely_47) rfl rfl (xrg rfl)) <|
  xA0 (ok_iload_n (xdd xB_208 dX11_surely_49) rfl rfl) <|
  xA1 (ok_imul (xdd xB_208 dX11_surely_50) rfl) <|
  xA0 (ok_iload_n (xdd xB_208 dX11_surely_51) rfl rfl) <|
  xA1 (ok_iadd (xdd xB_208 dX11_surely_52) rfl) <|
  xA1 (ok_iaload (xdd xB_208 dX11_surely_53) rfl) <|
  xA0 (ok_aload_n (xdd xB_208 dX11_surely_54) rfl rfl) <|
  xA1 (ok_getI (xdd xB_208 dX11_surely_55) rfl (lk_f q1434) (by decide)) <|
  xAB (ok_icmp_ne (xdd xB_208 dX11_surely_58) rfl rfl) <|
  xA0 (ok_aload_n (xdd xB_208 dX11_surely_61) rfl rfl) <|
  xA0 (ok_iload_n (xdd xB_208 dX11_surely_62) rfl rfl) <|
  xAK rfl (xC1 (ok_callV (xdd xB_208 dX11_surely_63) rfl xq_9 rfl xp_174_1 q1829 q1831 qs77 q124 q1832) xC0) <|
  xAe
theorem xe_208_2 {s0 : State} {A0 : Array Value} {D : va_G} {ta : Nat → ClassId} {l : Launch} : XAll s0 A0 D ta l 208 xk_208_2 :=
  xAR (ok_ireturn (xdd xB_208 dX11_surely_66) rfl) <|
  xA1 (ok_iinc (xdd xB_208 dX11_surely_67) rfl) <|
  xA0 (ok_goto (xdd xB_208 dX11_surely_70) rfl) <|
  xA0 (ok_aload_n (xdd xB_208 dX11_surely_73) rfl rfl) <|
  xA0 (ok_bipush (xdd xB_208 dX11_surely_74) rfl rfl (xrg rfl)) <|
  xAK rfl (xC1 (ok_callV (xdd xB_208 dX11_surely_76) rfl xq_9 rfl xp_174_1 q1829 q1831 qs77 q124 q1832) xC0) <|
  xAR (ok_ireturn (xdd xB_208 dX11_surely_79) rfl) <|
  xAe
theorem xe_208 {s0 : State} {A0 : Array Value} {D : va_G} {ta : Nat → ClassId} {l : Launch} : XAllC s0 A0 D ta l 208 xk_208 := ⟨xe_208_0, xe_208_1, xe_208_2, trivial⟩
theorem xe_209_0 {s0 : State} {A0 : Array Value} {D : va_G} {ta : Nat → ClassId} {l : Launch} : XAll s0 A0 D ta l 209 xk_209_0 :=
  xA0 (ok_aload_n (xdd xB_209 dX11_firstOf_0) rfl rfl) <|
  xA0 (ok_iconst (xdd xB_209 dX11_firstOf_1) rfl rfl (xrg rfl)) <|
  xA1 (ok_putI (xdd xB_209 dX11_firstOf_2) rfl (lk_f q1403) rfl xfd_66 (Or.inl rfl)) <|
  xA0 (ok_aload_n (xdd xB_209 dX11_firstOf_5) rfl rfl) <|
  xA0 (ok_iload_n (xdd xB_209 dX11_firstOf_6) rfl rfl) <|
  xAK rfl (xC1 (ok_callV (xdd xB_209 dX11_firstOf_7) rfl xq_9 rfl xp_178_1 q1845 q1847 qs78 q124 q1848) xC0) <|
  xAB (ok_if_ne (xdd xB_209 dX11_firstOf_10) rfl rfl) <|
  xA0 (ok_aload_n (xdd xB_209 dX11_firstOf_13) rfl rfl) <|
  xA0 (ok_iconst (xdd xB_209 dX11_firstOf_14) rfl rfl (xrg rfl)) <|
  xAK rfl (xC1 (ok_callV (xdd xB_209 dX11_firstOf_15) rfl xq_9 rfl xp_142_1 q1533 q1535 qs49 q124 q1536) xC0) <|
  xAR (ok_ireturn (xdd xB_209 dX11_firstOf_18) rfl) <|
  xA0 (ok_aload_n (xdd xB_209 dX11_firstOf_19) rfl rfl) <|
  xAK rfl (xC1 (ok_callV (xdd xB_209 dX11_firstOf_20) rfl xq_9 rfl xp_204_0 q1953 q1955 qs89 q124 q1956) xC0) <|
  xA0 (ok_aload_n (xdd xB_209 dX11_firstOf_23) rfl rfl) <|
  xA0 (ok_aload_n (xdd xB_209 dX11_firstOf_24) rfl rfl) <|
  xA1 (ok_getI (xdd xB_209 dX11_firstOf_25) rfl (lk_f q1434) (by decide)) <|
  xAB (ok_if_ne (xdd xB_209 dX11_firstOf_28) rfl rfl) <|
  xA0 (ok_bipush (xdd xB_209 dX11_firstOf_31) rfl rfl (xrg rfl)) <|
  xAe
theorem xe_209_1 {s0 : State} {A0 : Array Value} {D : va_G} {ta : Nat → ClassId} {l : Launch} : XAll s0 A0 D ta l 209 xk_209_1 :=
  xA0 (ok_goto (xdd xB_209 dX11_firstOf_33) rfl) <|
  xA0 (ok_aload_n (xdd xB_209 dX11_firstOf_36) rfl rfl) <|
  xA1 (ok_getA (xdd xB_209 dX11_firstOf_37) rfl (lk_f q1431) rfl) <|
  xA0 (ok_iload_n (xdd xB_209 dX11_firstOf_40) rfl rfl) <|
  xA1 (ok_iaload (xdd xB_209 dX11_firstOf_41) rfl) <|
  xAK rfl (xC1 (ok_callV (xdd xB_209 dX11_firstOf_42) rfl xq_9 rfl xp_174_1 q1829 q1831 qs77 q124 q1832) xC0) <|
  xAR (ok_ireturn (xdd xB_209 dX11_firstOf_45) rfl) <|
  xAe
theorem xe_209 {s0 : State} {A0 : Array Value} {D : va_G} {ta : Nat → ClassId} {l : Launch} : XAllC s0 A0 D ta l 209 xk_209 := ⟨xe_209_0, xe_209_1, trivial⟩
theorem xe_210_0 {s0 : State} {A0 : Array Value} {D : va_G} {ta : Nat → ClassId} {l : Launch} : XAll s0 A0 D ta l 210 xk_210_0 :=
  xA0 (ok_aload_n (xdd xB_210 dX11_ask_0) rfl rfl) <|
  xA0 (ok_iconst (xdd xB_210 dX11_ask_1) rfl rfl (xrg rfl)) <|
  xA1 (ok_putI (xdd xB_210 dX11_ask_2) rfl (lk_f q1403) rfl xfd_66 (Or.inl rfl)) <|
  xA0 (ok_aload_n (xdd xB_210 dX11_ask_5) rfl rfl) <|
  xA1 (ok_getA (xdd xB_210 dX11_ask_6) rfl (lk_f q1406) rfl) <|
  xAB (ok_ifnonnull (xdd xB_210 dX11_ask_9) rfl rfl) <|
  xA0 (ok_aload_n (xdd xB_210 dX11_ask_12) rfl rfl) <|
  xA0 (ok_iconst (xdd xB_210 dX11_ask_13) rfl rfl (xrg rfl)) <|
  xAK rfl (xC1 (ok_callV (xdd xB_210 dX11_ask_14) rfl xq_9 rfl xp_142_1 q1533 q1535 qs49 q124 q1536) xC0) <|
  xA0 (ok_goto (xdd xB_210 dX11_ask_17) rfl) <|
  xA0 (ok_aload_n (xdd xB_210 dX11_ask_20) rfl rfl) <|
  xA0 (ok_aload_n (xdd xB_210 dX11_ask_21) rfl rfl) <|
  xAK rfl (xC1 (ok_callV (xdd xB_210 dX11_ask_22) rfl xq_9 rfl xp_211_0 q1985 q1987 qs92 q124 q1988) xC0) <|
  xAK rfl (xC1 (ok_callV (xdd xB_210 dX11_ask_25) rfl xq_9 rfl xp_174_1 q1829 q1831 qs77 q124 q1832) xC0) <|
  xAR (ok_ireturn (xdd xB_210 dX11_ask_28) rfl) <|
  xAe
theorem xe_210 {s0 : State} {A0 : Array Value} {D : va_G} {ta : Nat → ClassId} {l : Launch} : XAllC s0 A0 D ta l 210 xk_210 := ⟨xe_210_0, trivial⟩
theorem xe_211_0 {s0 : State} {A0 : Array Value} {D : va_G} {ta : Nat → ClassId} {l : Launch} : XAll s0 A0 D ta l 211 xk_211_0 :=
  xA0 (ok_aload_n (xdd xB_211 dX11_asks_0) rfl rfl) <|
  xAK rfl (xC1 (ok_callV (xdd xB_211 dX11_asks_1) rfl xq_9 rfl xp_204_0 q1953 q1955 qs89 q124 q1956) xC0) <|
  xA0 (ok_bipush (xdd xB_211 dX11_asks_4) rfl rfl (xrg rfl)) <|
  xA0 (ok_istore_n (xdd xB_211 dX11_asks_6) rfl rfl) <|
  xA0 (ok_aload_n (xdd xB_211 dX11_asks_7) rfl rfl) <|
  xA0 (ok_bipush (xdd xB_211 dX11_asks_8) rfl rfl (xrg rfl)) <|
  xA1 (ok_putI (xdd xB_211 dX11_asks_10) rfl (lk_f q1435) rfl xfd_98 (Or.inl rfl)) <|
  xA0 (ok_iconst (xdd xB_211 dX11_asks_13) rfl rfl (xrg rfl)) <|
  xA0 (ok_istore_n (xdd xB_211 dX11_asks_14) rfl rfl) <|
  xA0 (ok_iload_n (xdd xB_211 dX11_asks_15) rfl rfl) <|
  xA0 (ok_aload_n (xdd xB_211 dX11_asks_16) rfl rfl) <|
  xA1 (ok_getI (xdd xB_211 dX11_asks_17) rfl (lk_f q1433) (by decide)) <|
  xAB (ok_icmp_ge (xdd xB_211 dX11_asks_20) rfl rfl) <|
  xA0 (ok_aload_n (xdd xB_211 dX11_asks_23) rfl rfl) <|
  xA1 (ok_getI (xdd xB_211 dX11_asks_24) rfl (lk_f q1434) (by decide)) <|
  xAB (ok_if_le (xdd xB_211 dX11_asks_27) rfl rfl) <|
  xA0 (ok_iconst (xdd xB_211 dX11_asks_30) rfl rfl (xrg rfl)) <|
  xA0 (ok_istore_n (xdd xB_211 dX11_asks_31) rfl rfl) <|
  xAe
theorem xe_211_1 {s0 : State} {A0 : Array Value} {D : va_G} {ta : Nat → ClassId} {l : Launch} : XAll s0 A0 D ta l 211 xk_211_1 :=
  xA0 (ok_iconst (xdd xB_211 dX11_asks_32) rfl rfl (xrg rfl)) <|
  xA0 (ok_istore (xdd xB_211 dX11_asks_33) rfl) <|
  xA0 (ok_iload (xdd xB_211 dX11_asks_35) rfl) <|
  xA0 (ok_aload_n (xdd xB_211 dX11_asks_37) rfl rfl) <|
  xA1 (ok_getA (xdd xB_211 dX11_asks_38) rfl (lk_f q1406) rfl) <|
  xA1 (ok_getI (xdd xB_211 dX11_asks_41) rfl (lk_n q1546) (by decide)) <|
  xAB (ok_icmp_ge (xdd xB_211 dX11_asks_44) rfl rfl) <|
  xA0 (ok_aload_n (xdd xB_211 dX11_asks_47) rfl rfl) <|
  xA1 (ok_getA (xdd xB_211 dX11_asks_48) rfl (lk_f q1432) rfl) <|
  xA0 (ok_bipush (xdd xB_211 dX11_asks_51) rfl rfl (xrg rfl)) <|
  xA0 (ok_aload_n (xdd xB_211 dX11_asks_53) rfl rfl) <|
  xA1 (ok_getA (xdd xB_211 dX11_asks_54) rfl (lk_f q1429) rfl) <|
  xA0 (ok_iload_n (xdd xB_211 dX11_asks_57) rfl rfl) <|
  xA1 (ok_iaload (xdd xB_211 dX11_asks_58) rfl) <|
  xA1 (ok_imul (xdd xB_211 dX11_asks_59) rfl) <|
  xA0 (ok_iload (xdd xB_211 dX11_asks_60) rfl) <|
  xA1 (ok_iadd (xdd xB_211 dX11_asks_62) rfl) <|
  xA1 (ok_iaload (xdd xB_211 dX11_asks_63) rfl) <|
  xAe
theorem xe_211_2 {s0 : State} {A0 : Array Value} {D : va_G} {ta : Nat → ClassId} {l : Launch} : XAll s0 A0 D ta l 211 xk_211_2 :=
  xA0 (ok_iload_n (xdd xB_211 dX11_asks_64) rfl rfl) <|
  xAB (ok_icmp_le (xdd xB_211 dX11_asks_65) rfl rfl) <|
  xA0 (ok_aload_n (xdd xB_211 dX11_asks_68) rfl rfl) <|
  xA1 (ok_getA (xdd xB_211 dX11_asks_69) rfl (lk_f q1432) rfl) <|
  xA0 (ok_bipush (xdd xB_211 dX11_asks_72) rfl rfl (xrg rfl)) <|
  xA0 (ok_aload_n (xdd xB_211 dX11_asks_74) rfl rfl) <|
  xA1 (ok_getA (xdd xB_211 dX11_asks_75) rfl (lk_f q1429) rfl) <|
  xA0 (ok_iload_n (xdd xB_211 dX11_asks_78) rfl rfl) <|
  xA1 (ok_iaload (xdd xB_211 dX11_asks_79) rfl) <|
  xA1 (ok_imul (xdd xB_211 dX11_asks_80) rfl) <|
  xA0 (ok_iload (xdd xB_211 dX11_asks_81) rfl) <|
  xA1 (ok_iadd (xdd xB_211 dX11_asks_83) rfl) <|
  xA1 (ok_iaload (xdd xB_211 dX11_asks_84) rfl) <|
  xA0 (ok_istore_n (xdd xB_211 dX11_asks_85) rfl rfl) <|
  xA1 (ok_iinc (xdd xB_211 dX11_asks_86) rfl) <|
  xA0 (ok_goto (xdd xB_211 dX11_asks_89) rfl) <|
  xA0 (ok_iload_n (xdd xB_211 dX11_asks_92) rfl rfl) <|
  xA0 (ok_bipush (xdd xB_211 dX11_asks_93) rfl rfl (xrg rfl)) <|
  xAB (ok_icmp_eq (xdd xB_211 dX11_asks_95) rfl rfl) <|
  xAe
theorem xe_211_3 {s0 : State} {A0 : Array Value} {D : va_G} {ta : Nat → ClassId} {l : Launch} : XAll s0 A0 D ta l 211 xk_211_3 :=
  xA0 (ok_iload_n (xdd xB_211 dX11_asks_98) rfl rfl) <|
  xA0 (ok_aload_n (xdd xB_211 dX11_asks_99) rfl rfl) <|
  xA1 (ok_getI (xdd xB_211 dX11_asks_100) rfl (lk_f q1435) (by decide)) <|
  xAB (ok_icmp_lt (xdd xB_211 dX11_asks_103) rfl rfl) <|
  xA0 (ok_goto (xdd xB_211 dX11_asks_106) rfl) <|
  xA0 (ok_aload_n (xdd xB_211 dX11_asks_109) rfl rfl) <|
  xA1 (ok_getA (xdd xB_211 dX11_asks_110) rfl (lk_f q1429) rfl) <|
  xA0 (ok_iload_n (xdd xB_211 dX11_asks_113) rfl rfl) <|
  xA1 (ok_iaload (xdd xB_211 dX11_asks_114) rfl) <|
  xA0 (ok_istore_n (xdd xB_211 dX11_asks_115) rfl rfl) <|
  xA0 (ok_aload_n (xdd xB_211 dX11_asks_116) rfl rfl) <|
  xA0 (ok_iload_n (xdd xB_211 dX11_asks_117) rfl rfl) <|
  xA1 (ok_putI (xdd xB_211 dX11_asks_118) rfl (lk_f q1435) rfl xfd_98 (Or.inl rfl)) <|
  xA1 (ok_iinc (xdd xB_211 dX11_asks_121) rfl) <|
  xA0 (ok_goto (xdd xB_211 dX11_asks_124) rfl) <|
  xA0 (ok_iload_n (xdd xB_211 dX11_asks_127) rfl rfl) <|
  xAe
theorem xe_211_4 {s0 : State} {A0 : Array Value} {D : va_G} {ta : Nat → ClassId} {l : Launch} : XAll s0 A0 D ta l 211 xk_211_4 :=
  xAR (ok_ireturn (xdd xB_211 dX11_asks_128) rfl) <|
  xAe
theorem xe_211 {s0 : State} {A0 : Array Value} {D : va_G} {ta : Nat → ClassId} {l : Launch} : XAllC s0 A0 D ta l 211 xk_211 := ⟨xe_211_0, xe_211_1, xe_211_2, xe_211_3, xe_211_4, trivial⟩
theorem xe_212_0 {s0 : State} {A0 : Array Value} {D : va_G} {ta : Nat → ClassId} {l : Launch} : XAll s0 A0 D ta l 212 xk_212_0 :=
  xA0 (ok_aload_n (xdd xB_212 dX11_askLeaves_0) rfl rfl) <|
  xA0 (ok_iconst (xdd xB_212 dX11_askLeaves_1) rfl rfl (xrg rfl)) <|
  xA1 (ok_putI (xdd xB_212 dX11_askLeaves_2) rfl (lk_f q1403) rfl xfd_66 (Or.inl rfl)) <|
  xA0 (ok_aload_n (xdd xB_212 dX11_askLeaves_5) rfl rfl) <|
  xA1 (ok_getA (xdd xB_212 dX11_askLeaves_6) rfl (lk_f q1406) rfl) <|
  xAB (ok_ifnonnull (xdd xB_212 dX11_askLeaves_9) rfl rfl) <|
  xA0 (ok_aload_n (xdd xB_212 dX11_askLeaves_12) rfl rfl) <|
  xA0 (ok_iconst (xdd xB_212 dX11_askLeaves_13) rfl rfl (xrg rfl)) <|
  xAK rfl (xC1 (ok_callV (xdd xB_212 dX11_askLeaves_14) rfl xq_9 rfl xp_142_1 q1533 q1535 qs49 q124 q1536) xC0) <|
  xAR (ok_ireturn (xdd xB_212 dX11_askLeaves_17) rfl) <|
  xA0 (ok_aload_n (xdd xB_212 dX11_askLeaves_18) rfl rfl) <|
  xAK rfl (xC1 (ok_callV (xdd xB_212 dX11_askLeaves_19) rfl xq_9 rfl xp_211_0 q1985 q1987 qs92 q124 q1988) xC0) <|
  xA0 (ok_pop (xdd xB_212 dX11_askLeaves_22) rfl) <|
  xA0 (ok_aload_n (xdd xB_212 dX11_askLeaves_23) rfl rfl) <|
  xA0 (ok_aload_n (xdd xB_212 dX11_askLeaves_24) rfl rfl) <|
  xA1 (ok_getI (xdd xB_212 dX11_askLeaves_25) rfl (lk_f q1435) (by decide)) <|
  xAK rfl (xC1 (ok_callV (xdd xB_212 dX11_askLeaves_28) rfl xq_9 rfl xp_174_1 q1829 q1831 qs77 q124 q1832) xC0) <|
  xAR (ok_ireturn (xdd xB_212 dX11_askLeaves_31) rfl) <|
  xAe
theorem xe_212 {s0 : State} {A0 : Array Value} {D : va_G} {ta : Nat → ClassId} {l : Launch} : XAllC s0 A0 D ta l 212 xk_212 := ⟨xe_212_0, trivial⟩
theorem xe_213_0 {s0 : State} {A0 : Array Value} {D : va_G} {ta : Nat → ClassId} {l : Launch} : XAll s0 A0 D ta l 213 xk_213_0 :=
  xA0 (ok_aload_n (xdd xB_213 dX11_owes_0) rfl rfl) <|
  xA0 (ok_iconst (xdd xB_213 dX11_owes_1) rfl rfl (xrg rfl)) <|
  xA1 (ok_putI (xdd xB_213 dX11_owes_2) rfl (lk_f q1403) rfl xfd_66 (Or.inl rfl)) <|
  xA0 (ok_aload_n (xdd xB_213 dX11_owes_5) rfl rfl) <|
  xA0 (ok_iload_n (xdd xB_213 dX11_owes_6) rfl rfl) <|
  xAK rfl (xC1 (ok_callV (xdd xB_213 dX11_owes_7) rfl xq_9 rfl xp_178_1 q1845 q1847 qs78 q124 q1848) xC0) <|
  xAB (ok_if_eq (xdd xB_213 dX11_owes_10) rfl rfl) <|
  xA0 (ok_aload_n (xdd xB_213 dX11_owes_13) rfl rfl) <|
  xA0 (ok_aload_n (xdd xB_213 dX11_owes_14) rfl rfl) <|
  xA0 (ok_iload_n (xdd xB_213 dX11_owes_15) rfl rfl) <|
  xAK rfl (xC1 (ok_callV (xdd xB_213 dX11_owes_16) rfl xq_9 rfl xp_214_1 q1997 q1999 qs93 q124 q2000) xC0) <|
  xA0 (ok_i2l (xdd xB_213 dX11_owes_19) rfl) <|
  xA0 (ok_aload_n (xdd xB_213 dX11_owes_20) rfl rfl) <|
  xA0 (ok_iload_n (xdd xB_213 dX11_owes_21) rfl rfl) <|
  xAK rfl (xC1 (ok_callV (xdd xB_213 dX11_owes_22) rfl xq_9 rfl xp_215_1 q2001 q2003 qs94 q124 q2004) xC0) <|
  xA0 (ok_i2l (xdd xB_213 dX11_owes_25) rfl) <|
  xA0 (ok_iload_n (xdd xB_213 dX11_owes_26) rfl rfl) <|
  xAK rfl (xC1 (ok_callV (xdd xB_213 dX11_owes_27) rfl xq_9 rfl xp_216_3 q2005 q2007 qs95 q124 q2008) xC0) <|
  xA0 (ok_goto (xdd xB_213 dX11_owes_30) rfl) <|
  xAe
theorem xe_213_1 {s0 : State} {A0 : Array Value} {D : va_G} {ta : Nat → ClassId} {l : Launch} : XAll s0 A0 D ta l 213 xk_213_1 :=
  xA0 (ok_aload_n (xdd xB_213 dX11_owes_33) rfl rfl) <|
  xA0 (ok_iconst (xdd xB_213 dX11_owes_34) rfl rfl (xrg rfl)) <|
  xAK rfl (xC1 (ok_callV (xdd xB_213 dX11_owes_35) rfl xq_9 rfl xp_142_1 q1533 q1535 qs49 q124 q1536) xC0) <|
  xA0 (ok_i2l (xdd xB_213 dX11_owes_38) rfl) <|
  xAR (ok_lreturn (xdd xB_213 dX11_owes_39) rfl) <|
  xAe
theorem xe_213 {s0 : State} {A0 : Array Value} {D : va_G} {ta : Nat → ClassId} {l : Launch} : XAllC s0 A0 D ta l 213 xk_213 := ⟨xe_213_0, xe_213_1, trivial⟩
theorem xe_214_0 {s0 : State} {A0 : Array Value} {D : va_G} {ta : Nat → ClassId} {l : Launch} : XAll s0 A0 D ta l 214 xk_214_0 :=
  xA0 (ok_aload_n (xdd xB_214 dX11_owedBy_0) rfl rfl) <|
  xA0 (ok_iload_n (xdd xB_214 dX11_owedBy_1) rfl rfl) <|
  xAK rfl (xC1 (ok_callV (xdd xB_214 dX11_owedBy_2) rfl xq_9 rfl xp_179_1 q1849 q1851 qs79 q124 q1852) xC0) <|
  xA0 (ok_istore_n (xdd xB_214 dX11_owedBy_5) rfl rfl) <|
  xA0 (ok_iload_n (xdd xB_214 dX11_owedBy_6) rfl rfl) <|
  xA0 (ok_bipush (xdd xB_214 dX11_owedBy_7) rfl rfl (xrg rfl)) <|
  xAB (ok_icmp_ne (xdd xB_214 dX11_owedBy_9) rfl rfl) <|
  xA0 (ok_iconst (xdd xB_214 dX11_owedBy_12) rfl rfl (xrg rfl)) <|
  xA0 (ok_goto (xdd xB_214 dX11_owedBy_13) rfl) <|
  xA0 (ok_aload_n (xdd xB_214 dX11_owedBy_16) rfl rfl) <|
  xA1 (ok_getA (xdd xB_214 dX11_owedBy_17) rfl (lk_f q1406) rfl) <|
  xA1 (ok_getA (xdd xB_214 dX11_owedBy_20) rfl (lk_n q1562) rfl) <|
  xA0 (ok_iload_n (xdd xB_214 dX11_owedBy_23) rfl rfl) <|
  xA1 (ok_iaload (xdd xB_214 dX11_owedBy_24) rfl) <|
  xAR (ok_ireturn (xdd xB_214 dX11_owedBy_25) rfl) <|
  xAe
theorem xe_214 {s0 : State} {A0 : Array Value} {D : va_G} {ta : Nat → ClassId} {l : Launch} : XAllC s0 A0 D ta l 214 xk_214 := ⟨xe_214_0, trivial⟩
theorem xe_215_0 {s0 : State} {A0 : Array Value} {D : va_G} {ta : Nat → ClassId} {l : Launch} : XAll s0 A0 D ta l 215 xk_215_0 :=
  xA0 (ok_aload_n (xdd xB_215 dX11_partsBy_0) rfl rfl) <|
  xA0 (ok_iload_n (xdd xB_215 dX11_partsBy_1) rfl rfl) <|
  xAK rfl (xC1 (ok_callV (xdd xB_215 dX11_partsBy_2) rfl xq_9 rfl xp_179_1 q1849 q1851 qs79 q124 q1852) xC0) <|
  xA0 (ok_istore_n (xdd xB_215 dX11_partsBy_5) rfl rfl) <|
  xA0 (ok_iload_n (xdd xB_215 dX11_partsBy_6) rfl rfl) <|
  xA0 (ok_bipush (xdd xB_215 dX11_partsBy_7) rfl rfl (xrg rfl)) <|
  xAB (ok_icmp_ne (xdd xB_215 dX11_partsBy_9) rfl rfl) <|
  xA0 (ok_iconst (xdd xB_215 dX11_partsBy_12) rfl rfl (xrg rfl)) <|
  xA0 (ok_goto (xdd xB_215 dX11_partsBy_13) rfl) <|
  xA0 (ok_aload_n (xdd xB_215 dX11_partsBy_16) rfl rfl) <|
  xA1 (ok_getA (xdd xB_215 dX11_partsBy_17) rfl (lk_f q1406) rfl) <|
  xA1 (ok_getA (xdd xB_215 dX11_partsBy_20) rfl (lk_n q1558) rfl) <|
  xA0 (ok_iload_n (xdd xB_215 dX11_partsBy_23) rfl rfl) <|
  xA1 (ok_iaload (xdd xB_215 dX11_partsBy_24) rfl) <|
  xA0 (ok_iconst (xdd xB_215 dX11_partsBy_25) rfl rfl (xrg rfl)) <|
  xA1 (ok_iadd (xdd xB_215 dX11_partsBy_26) rfl) <|
  xAR (ok_ireturn (xdd xB_215 dX11_partsBy_27) rfl) <|
  xAe
theorem xe_215 {s0 : State} {A0 : Array Value} {D : va_G} {ta : Nat → ClassId} {l : Launch} : XAllC s0 A0 D ta l 215 xk_215 := ⟨xe_215_0, trivial⟩
theorem xe_216_0 {s0 : State} {A0 : Array Value} {D : va_G} {ta : Nat → ClassId} {l : Launch} : XAll s0 A0 D ta l 216 xk_216_0 :=
  xA0 (ok_aload_n (xdd xB_216 dX11_fraction_0) rfl rfl) <|
  xA0 (ok_iconst (xdd xB_216 dX11_fraction_1) rfl rfl (xrg rfl)) <|
  xAK rfl (xC1 (ok_callV (xdd xB_216 dX11_fraction_2) rfl xq_9 rfl xp_174_1 q1829 q1831 qs77 q124 q1832) xC0) <|
  xA0 (ok_pop (xdd xB_216 dX11_fraction_5) rfl) <|
  xA0 (ok_iload (xdd xB_216 dX11_fraction_6) rfl) <|
  xAB (ok_if_eq (xdd xB_216 dX11_fraction_8) rfl rfl) <|
  xA0 (ok_lload_n (xdd xB_216 dX11_fraction_11) rfl rfl) <|
  xA0 (ok_goto (xdd xB_216 dX11_fraction_12) rfl) <|
  xA0 (ok_lload_n (xdd xB_216 dX11_fraction_15) rfl rfl) <|
  xA0 (ok_lload_n (xdd xB_216 dX11_fraction_16) rfl rfl) <|
  xA0 (ok_lload_n (xdd xB_216 dX11_fraction_17) rfl rfl) <|
  xAK rfl (xC1 (ok_callS (xdd xB_216 dX11_fraction_18) rfl xp_217_2 q2009 q2010 q124 q2011) xC0) <|
  xA1 (ok_ldiv (xdd xB_216 dX11_fraction_21) rfl) <|
  xAR (ok_lreturn (xdd xB_216 dX11_fraction_22) rfl) <|
  xAe
theorem xe_216 {s0 : State} {A0 : Array Value} {D : va_G} {ta : Nat → ClassId} {l : Launch} : XAllC s0 A0 D ta l 216 xk_216 := ⟨xe_216_0, trivial⟩
theorem xe_217_0 {s0 : State} {A0 : Array Value} {D : va_G} {ta : Nat → ClassId} {l : Launch} : XAll s0 A0 D ta l 217 xk_217_0 :=
  xA0 (ok_lload_n (xdd xB_217 dX11_common_0) rfl rfl) <|
  xA0 (ok_lconst (xdd xB_217 dX11_common_1) rfl rfl (xrgL rfl)) <|
  xA0 (ok_lcmp (xdd xB_217 dX11_common_2) rfl) <|
  xAB (ok_if_ge (xdd xB_217 dX11_common_3) rfl rfl) <|
  xA0 (ok_lload_n (xdd xB_217 dX11_common_6) rfl rfl) <|
  xA1 (ok_lneg (xdd xB_217 dX11_common_7) rfl) <|
  xA0 (ok_goto (xdd xB_217 dX11_common_8) rfl) <|
  xA0 (ok_lload_n (xdd xB_217 dX11_common_11) rfl rfl) <|
  xA0 (ok_lstore (xdd xB_217 dX11_common_12) rfl) <|
  xA0 (ok_lload_n (xdd xB_217 dX11_common_14) rfl rfl) <|
  xA0 (ok_lstore (xdd xB_217 dX11_common_15) rfl) <|
  xA0 (ok_lload (xdd xB_217 dX11_common_17) rfl) <|
  xA0 (ok_lconst (xdd xB_217 dX11_common_19) rfl rfl (xrgL rfl)) <|
  xA0 (ok_lcmp (xdd xB_217 dX11_common_20) rfl) <|
  xAB (ok_if_eq (xdd xB_217 dX11_common_21) rfl rfl) <|
  xA0 (ok_lload (xdd xB_217 dX11_common_24) rfl) <|
  xA0 (ok_lload (xdd xB_217 dX11_common_26) rfl) <|
  xA1 (ok_lrem (xdd xB_217 dX11_common_28) rfl) <|
  xA0 (ok_lstore (xdd xB_217 dX11_common_29) rfl) <|
  xA0 (ok_lload (xdd xB_217 dX11_common_31) rfl) <|
  xAe
theorem xe_217_1 {s0 : State} {A0 : Array Value} {D : va_G} {ta : Nat → ClassId} {l : Launch} : XAll s0 A0 D ta l 217 xk_217_1 :=
  xA0 (ok_lstore (xdd xB_217 dX11_common_33) rfl) <|
  xA0 (ok_lload (xdd xB_217 dX11_common_35) rfl) <|
  xA0 (ok_lstore (xdd xB_217 dX11_common_37) rfl) <|
  xA0 (ok_goto (xdd xB_217 dX11_common_39) rfl) <|
  xA0 (ok_lload (xdd xB_217 dX11_common_42) rfl) <|
  xAR (ok_lreturn (xdd xB_217 dX11_common_44) rfl) <|
  xAe
theorem xe_217 {s0 : State} {A0 : Array Value} {D : va_G} {ta : Nat → ClassId} {l : Launch} : XAllC s0 A0 D ta l 217 xk_217 := ⟨xe_217_0, xe_217_1, trivial⟩
theorem xe_218_0 {s0 : State} {A0 : Array Value} {D : va_G} {ta : Nat → ClassId} {l : Launch} : XAll s0 A0 D ta l 218 xk_218_0 :=
  xA0 (ok_aload_n (xdd xB_218 dX11_net_0) rfl rfl) <|
  xA0 (ok_iconst (xdd xB_218 dX11_net_1) rfl rfl (xrg rfl)) <|
  xA1 (ok_putI (xdd xB_218 dX11_net_2) rfl (lk_f q1403) rfl xfd_66 (Or.inl rfl)) <|
  xA0 (ok_aload_n (xdd xB_218 dX11_net_5) rfl rfl) <|
  xA0 (ok_iload_n (xdd xB_218 dX11_net_6) rfl rfl) <|
  xAK rfl (xC1 (ok_callV (xdd xB_218 dX11_net_7) rfl xq_9 rfl xp_178_1 q1845 q1847 qs78 q124 q1848) xC0) <|
  xAB (ok_if_ne (xdd xB_218 dX11_net_10) rfl rfl) <|
  xA0 (ok_aload_n (xdd xB_218 dX11_net_13) rfl rfl) <|
  xA0 (ok_iconst (xdd xB_218 dX11_net_14) rfl rfl (xrg rfl)) <|
  xAK rfl (xC1 (ok_callV (xdd xB_218 dX11_net_15) rfl xq_9 rfl xp_142_1 q1533 q1535 qs49 q124 q1536) xC0) <|
  xA0 (ok_pop (xdd xB_218 dX11_net_18) rfl) <|
  xA0 (ok_ldc2 (xdd xB_218 dX11_net_19) rfl q2016 rfl (xrgL rfl)) <|
  xAR (ok_lreturn (xdd xB_218 dX11_net_22) rfl) <|
  xA0 (ok_aload_n (xdd xB_218 dX11_net_23) rfl rfl) <|
  xA1 (ok_getA (xdd xB_218 dX11_net_24) rfl (lk_f q1406) rfl) <|
  xA1 (ok_getA (xdd xB_218 dX11_net_27) rfl (lk_n q1558) rfl) <|
  xA0 (ok_iload_n (xdd xB_218 dX11_net_30) rfl rfl) <|
  xA1 (ok_iaload (xdd xB_218 dX11_net_31) rfl) <|
  xAe
theorem xe_218_1 {s0 : State} {A0 : Array Value} {D : va_G} {ta : Nat → ClassId} {l : Launch} : XAll s0 A0 D ta l 218 xk_218_1 :=
  xA0 (ok_iconst (xdd xB_218 dX11_net_32) rfl rfl (xrg rfl)) <|
  xA1 (ok_iadd (xdd xB_218 dX11_net_33) rfl) <|
  xA0 (ok_i2l (xdd xB_218 dX11_net_34) rfl) <|
  xA0 (ok_lstore_n (xdd xB_218 dX11_net_35) rfl rfl) <|
  xA0 (ok_aload_n (xdd xB_218 dX11_net_36) rfl rfl) <|
  xA1 (ok_getA (xdd xB_218 dX11_net_37) rfl (lk_f q1418) rfl) <|
  xA0 (ok_iconst (xdd xB_218 dX11_net_40) rfl rfl (xrg rfl)) <|
  xA0 (ok_iload_n (xdd xB_218 dX11_net_41) rfl rfl) <|
  xA1 (ok_iadd (xdd xB_218 dX11_net_42) rfl) <|
  xA1 (ok_iaload (xdd xB_218 dX11_net_43) rfl) <|
  xA0 (ok_bipush (xdd xB_218 dX11_net_44) rfl rfl (xrg rfl)) <|
  xAB (ok_icmp_ne (xdd xB_218 dX11_net_46) rfl rfl) <|
  xA0 (ok_lconst (xdd xB_218 dX11_net_49) rfl rfl (xrgL rfl)) <|
  xA0 (ok_goto (xdd xB_218 dX11_net_50) rfl) <|
  xA0 (ok_aload_n (xdd xB_218 dX11_net_53) rfl rfl) <|
  xA1 (ok_getA (xdd xB_218 dX11_net_54) rfl (lk_f q1406) rfl) <|
  xA1 (ok_getA (xdd xB_218 dX11_net_57) rfl (lk_n q1562) rfl) <|
  xA0 (ok_iload_n (xdd xB_218 dX11_net_60) rfl rfl) <|
  xA1 (ok_iaload (xdd xB_218 dX11_net_61) rfl) <|
  xA0 (ok_i2l (xdd xB_218 dX11_net_62) rfl) <|
  xA0 (ok_lstore (xdd xB_218 dX11_net_63) rfl) <|
  xAe
theorem xe_218_2 {s0 : State} {A0 : Array Value} {D : va_G} {ta : Nat → ClassId} {l : Launch} : XAll s0 A0 D ta l 218 xk_218_2 :=
  xA0 (ok_aload_n (xdd xB_218 dX11_net_65) rfl rfl) <|
  xA0 (ok_lload (xdd xB_218 dX11_net_66) rfl) <|
  xA0 (ok_aload_n (xdd xB_218 dX11_net_68) rfl rfl) <|
  xA0 (ok_iload_n (xdd xB_218 dX11_net_69) rfl rfl) <|
  xAK rfl (xC1 (ok_callV (xdd xB_218 dX11_net_70) rfl xq_9 rfl xp_215_1 q2001 q2003 qs94 q124 q2004) xC0) <|
  xA0 (ok_i2l (xdd xB_218 dX11_net_73) rfl) <|
  xA1 (ok_lmul (xdd xB_218 dX11_net_74) rfl) <|
  xA0 (ok_aload_n (xdd xB_218 dX11_net_75) rfl rfl) <|
  xA0 (ok_iload_n (xdd xB_218 dX11_net_76) rfl rfl) <|
  xAK rfl (xC1 (ok_callV (xdd xB_218 dX11_net_77) rfl xq_9 rfl xp_214_1 q1997 q1999 qs93 q124 q2000) xC0) <|
  xA0 (ok_i2l (xdd xB_218 dX11_net_80) rfl) <|
  xA0 (ok_lload_n (xdd xB_218 dX11_net_81) rfl rfl) <|
  xA1 (ok_lmul (xdd xB_218 dX11_net_82) rfl) <|
  xA1 (ok_lsub (xdd xB_218 dX11_net_83) rfl) <|
  xA0 (ok_lload_n (xdd xB_218 dX11_net_84) rfl rfl) <|
  xA0 (ok_aload_n (xdd xB_218 dX11_net_85) rfl rfl) <|
  xA0 (ok_iload_n (xdd xB_218 dX11_net_86) rfl rfl) <|
  xAK rfl (xC1 (ok_callV (xdd xB_218 dX11_net_87) rfl xq_9 rfl xp_215_1 q2001 q2003 qs94 q124 q2004) xC0) <|
  xA0 (ok_i2l (xdd xB_218 dX11_net_90) rfl) <|
  xA1 (ok_lmul (xdd xB_218 dX11_net_91) rfl) <|
  xA0 (ok_iload_n (xdd xB_218 dX11_net_92) rfl rfl) <|
  xAK rfl (xC1 (ok_callV (xdd xB_218 dX11_net_93) rfl xq_9 rfl xp_216_3 q2005 q2007 qs95 q124 q2008) xC0) <|
  xAe
theorem xe_218_3 {s0 : State} {A0 : Array Value} {D : va_G} {ta : Nat → ClassId} {l : Launch} : XAll s0 A0 D ta l 218 xk_218_3 :=
  xAR (ok_lreturn (xdd xB_218 dX11_net_96) rfl) <|
  xAe
theorem xe_218 {s0 : State} {A0 : Array Value} {D : va_G} {ta : Nat → ClassId} {l : Launch} : XAllC s0 A0 D ta l 218 xk_218 := ⟨xe_218_0, xe_218_1, xe_218_2, xe_218_3, trivial⟩
theorem xe_219_0 {s0 : State} {A0 : Array Value} {D : va_G} {ta : Nat → ClassId} {l : Launch} : XAll s0 A0 D ta l 219 xk_219_0 :=
  xA0 (ok_aload_n (xdd xB_219 dX11_debtor_0) rfl rfl) <|
  xA0 (ok_iconst (xdd xB_219 dX11_debtor_1) rfl rfl (xrg rfl)) <|
  xA1 (ok_putI (xdd xB_219 dX11_debtor_2) rfl (lk_f q1403) rfl xfd_66 (Or.inl rfl)) <|
  xA0 (ok_aload_n (xdd xB_219 dX11_debtor_5) rfl rfl) <|
  xA1 (ok_getA (xdd xB_219 dX11_debtor_6) rfl (lk_f q1406) rfl) <|
  xAB (ok_ifnonnull (xdd xB_219 dX11_debtor_9) rfl rfl) <|
  xA0 (ok_aload_n (xdd xB_219 dX11_debtor_12) rfl rfl) <|
  xA0 (ok_iconst (xdd xB_219 dX11_debtor_13) rfl rfl (xrg rfl)) <|
  xAK rfl (xC1 (ok_callV (xdd xB_219 dX11_debtor_14) rfl xq_9 rfl xp_142_1 q1533 q1535 qs49 q124 q1536) xC0) <|
  xAR (ok_ireturn (xdd xB_219 dX11_debtor_17) rfl) <|
  xA0 (ok_bipush (xdd xB_219 dX11_debtor_18) rfl rfl (xrg rfl)) <|
  xA0 (ok_istore_n (xdd xB_219 dX11_debtor_20) rfl rfl) <|
  xA0 (ok_iconst (xdd xB_219 dX11_debtor_21) rfl rfl (xrg rfl)) <|
  xA0 (ok_istore_n (xdd xB_219 dX11_debtor_22) rfl rfl) <|
  xA0 (ok_iload_n (xdd xB_219 dX11_debtor_23) rfl rfl) <|
  xA0 (ok_aload_n (xdd xB_219 dX11_debtor_24) rfl rfl) <|
  xA1 (ok_getA (xdd xB_219 dX11_debtor_25) rfl (lk_f q1406) rfl) <|
  xA1 (ok_getI (xdd xB_219 dX11_debtor_28) rfl (lk_n q1546) (by decide)) <|
  xAB (ok_icmp_ge (xdd xB_219 dX11_debtor_31) rfl rfl) <|
  xAe
theorem xe_219_1 {s0 : State} {A0 : Array Value} {D : va_G} {ta : Nat → ClassId} {l : Launch} : XAll s0 A0 D ta l 219 xk_219_1 :=
  xA0 (ok_aload_n (xdd xB_219 dX11_debtor_34) rfl rfl) <|
  xA0 (ok_iload_n (xdd xB_219 dX11_debtor_35) rfl rfl) <|
  xAK rfl (xC1 (ok_callV (xdd xB_219 dX11_debtor_36) rfl xq_9 rfl xp_214_1 q1997 q1999 qs93 q124 q2000) xC0) <|
  xAB (ok_if_ne (xdd xB_219 dX11_debtor_39) rfl rfl) <|
  xA0 (ok_goto (xdd xB_219 dX11_debtor_42) rfl) <|
  xA0 (ok_iload_n (xdd xB_219 dX11_debtor_45) rfl rfl) <|
  xA0 (ok_bipush (xdd xB_219 dX11_debtor_46) rfl rfl (xrg rfl)) <|
  xAB (ok_icmp_eq (xdd xB_219 dX11_debtor_48) rfl rfl) <|
  xA0 (ok_aload_n (xdd xB_219 dX11_debtor_51) rfl rfl) <|
  xA0 (ok_iload_n (xdd xB_219 dX11_debtor_52) rfl rfl) <|
  xAK rfl (xC1 (ok_callV (xdd xB_219 dX11_debtor_53) rfl xq_9 rfl xp_214_1 q1997 q1999 qs93 q124 q2000) xC0) <|
  xA0 (ok_aload_n (xdd xB_219 dX11_debtor_56) rfl rfl) <|
  xA0 (ok_iload_n (xdd xB_219 dX11_debtor_57) rfl rfl) <|
  xAK rfl (xC1 (ok_callV (xdd xB_219 dX11_debtor_58) rfl xq_9 rfl xp_215_1 q2001 q2003 qs94 q124 q2004) xC0) <|
  xA1 (ok_imul (xdd xB_219 dX11_debtor_61) rfl) <|
  xA0 (ok_aload_n (xdd xB_219 dX11_debtor_62) rfl rfl) <|
  xA0 (ok_iload_n (xdd xB_219 dX11_debtor_63) rfl rfl) <|
  xAe
theorem xe_219_2 {s0 : State} {A0 : Array Value} {D : va_G} {ta : Nat → ClassId} {l : Launch} : XAll s0 A0 D ta l 219 xk_219_2 :=
  xAK rfl (xC1 (ok_callV (xdd xB_219 dX11_debtor_64) rfl xq_9 rfl xp_214_1 q1997 q1999 qs93 q124 q2000) xC0) <|
  xA0 (ok_aload_n (xdd xB_219 dX11_debtor_67) rfl rfl) <|
  xA0 (ok_iload_n (xdd xB_219 dX11_debtor_68) rfl rfl) <|
  xAK rfl (xC1 (ok_callV (xdd xB_219 dX11_debtor_69) rfl xq_9 rfl xp_215_1 q2001 q2003 qs94 q124 q2004) xC0) <|
  xA1 (ok_imul (xdd xB_219 dX11_debtor_72) rfl) <|
  xAB (ok_icmp_le (xdd xB_219 dX11_debtor_73) rfl rfl) <|
  xA0 (ok_iload_n (xdd xB_219 dX11_debtor_76) rfl rfl) <|
  xA0 (ok_istore_n (xdd xB_219 dX11_debtor_77) rfl rfl) <|
  xA1 (ok_iinc (xdd xB_219 dX11_debtor_78) rfl) <|
  xA0 (ok_goto (xdd xB_219 dX11_debtor_81) rfl) <|
  xA0 (ok_aload_n (xdd xB_219 dX11_debtor_84) rfl rfl) <|
  xA0 (ok_iload_n (xdd xB_219 dX11_debtor_85) rfl rfl) <|
  xAK rfl (xC1 (ok_callV (xdd xB_219 dX11_debtor_86) rfl xq_9 rfl xp_174_1 q1829 q1831 qs77 q124 q1832) xC0) <|
  xAR (ok_ireturn (xdd xB_219 dX11_debtor_89) rfl) <|
  xAe
theorem xe_219 {s0 : State} {A0 : Array Value} {D : va_G} {ta : Nat → ClassId} {l : Launch} : XAllC s0 A0 D ta l 219 xk_219 := ⟨xe_219_0, xe_219_1, xe_219_2, trivial⟩
theorem xe_220_0 {s0 : State} {A0 : Array Value} {D : va_G} {ta : Nat → ClassId} {l : Launch} : XAll s0 A0 D ta l 220 xk_220_0 :=
  xA0 (ok_aload_n (xdd xB_220 dX11_paired_0) rfl rfl) <|
  xA0 (ok_iconst (xdd xB_220 dX11_paired_1) rfl rfl (xrg rfl)) <|
  xA1 (ok_putI (xdd xB_220 dX11_paired_2) rfl (lk_f q1403) rfl xfd_66 (Or.inl rfl)) <|
  xA0 (ok_aload_n (xdd xB_220 dX11_paired_5) rfl rfl) <|
  xA1 (ok_getA (xdd xB_220 dX11_paired_6) rfl (lk_f q1406) rfl) <|
  xAB (ok_ifnonnull (xdd xB_220 dX11_paired_9) rfl rfl) <|
  xA0 (ok_aload_n (xdd xB_220 dX11_paired_12) rfl rfl) <|
  xA0 (ok_iconst (xdd xB_220 dX11_paired_13) rfl rfl (xrg rfl)) <|
  xAK rfl (xC1 (ok_callV (xdd xB_220 dX11_paired_14) rfl xq_9 rfl xp_142_1 q1533 q1535 qs49 q124 q1536) xC0) <|
  xAR (ok_ireturn (xdd xB_220 dX11_paired_17) rfl) <|
  xA0 (ok_aload_n (xdd xB_220 dX11_paired_18) rfl rfl) <|
  xAK rfl (xC1 (ok_callV (xdd xB_220 dX11_paired_19) rfl xq_9 rfl xp_221_0 q2025 q2027 qs96 q124 q2028) xC0) <|
  xA0 (ok_aload_n (xdd xB_220 dX11_paired_22) rfl rfl) <|
  xA0 (ok_aload_n (xdd xB_220 dX11_paired_23) rfl rfl) <|
  xA1 (ok_getI (xdd xB_220 dX11_paired_24) rfl (lk_f q1438) (by decide)) <|
  xAK rfl (xC1 (ok_callV (xdd xB_220 dX11_paired_27) rfl xq_9 rfl xp_174_1 q1829 q1831 qs77 q124 q1832) xC0) <|
  xAR (ok_ireturn (xdd xB_220 dX11_paired_30) rfl) <|
  xAe
theorem xe_220 {s0 : State} {A0 : Array Value} {D : va_G} {ta : Nat → ClassId} {l : Launch} : XAllC s0 A0 D ta l 220 xk_220 := ⟨xe_220_0, trivial⟩
theorem xe_221_0 {s0 : State} {A0 : Array Value} {D : va_G} {ta : Nat → ClassId} {l : Launch} : XAll s0 A0 D ta l 221 xk_221_0 :=
  xA0 (ok_aload_n (xdd xB_221 dX11_seeks_0) rfl rfl) <|
  xA0 (ok_iconst (xdd xB_221 dX11_seeks_1) rfl rfl (xrg rfl)) <|
  xA1 (ok_putI (xdd xB_221 dX11_seeks_2) rfl (lk_f q1438) rfl xfd_101 (Or.inl rfl)) <|
  xA0 (ok_iconst (xdd xB_221 dX11_seeks_5) rfl rfl (xrg rfl)) <|
  xA0 (ok_istore_n (xdd xB_221 dX11_seeks_6) rfl rfl) <|
  xA0 (ok_iload_n (xdd xB_221 dX11_seeks_7) rfl rfl) <|
  xA0 (ok_iconst (xdd xB_221 dX11_seeks_8) rfl rfl (xrg rfl)) <|
  xAB (ok_icmp_gt (xdd xB_221 dX11_seeks_9) rfl rfl) <|
  xA0 (ok_aload_n (xdd xB_221 dX11_seeks_12) rfl rfl) <|
  xA0 (ok_iload_n (xdd xB_221 dX11_seeks_13) rfl rfl) <|
  xAK rfl (xC1 (ok_callV (xdd xB_221 dX11_seeks_14) rfl xq_9 rfl xp_222_1 q2029 q2031 qs97 q124 q2032) xC0) <|
  xA1 (ok_iinc (xdd xB_221 dX11_seeks_17) rfl) <|
  xA0 (ok_goto (xdd xB_221 dX11_seeks_20) rfl) <|
  xAR (ok_vreturn (xdd xB_221 dX11_seeks_23) rfl) <|
  xAe
theorem xe_221 {s0 : State} {A0 : Array Value} {D : va_G} {ta : Nat → ClassId} {l : Launch} : XAllC s0 A0 D ta l 221 xk_221 := ⟨xe_221_0, trivial⟩
theorem xe_222_0 {s0 : State} {A0 : Array Value} {D : va_G} {ta : Nat → ClassId} {l : Launch} : XAll s0 A0 D ta l 222 xk_222_0 :=
  xA0 (ok_iconst (xdd xB_222 dX11_seeksOf_0) rfl rfl (xrg rfl)) <|
  xA0 (ok_istore_n (xdd xB_222 dX11_seeksOf_1) rfl rfl) <|
  xA0 (ok_iload_n (xdd xB_222 dX11_seeksOf_2) rfl rfl) <|
  xA0 (ok_iload_n (xdd xB_222 dX11_seeksOf_3) rfl rfl) <|
  xAB (ok_icmp_ge (xdd xB_222 dX11_seeksOf_4) rfl rfl) <|
  xA0 (ok_aload_n (xdd xB_222 dX11_seeksOf_7) rfl rfl) <|
  xA1 (ok_getA (xdd xB_222 dX11_seeksOf_8) rfl (lk_f q1436) rfl) <|
  xA0 (ok_iload_n (xdd xB_222 dX11_seeksOf_11) rfl rfl) <|
  xA0 (ok_iconst (xdd xB_222 dX11_seeksOf_12) rfl rfl (xrg rfl)) <|
  xA1 (ok_iastore (xdd xB_222 dX11_seeksOf_13) rfl) <|
  xA1 (ok_iinc (xdd xB_222 dX11_seeksOf_14) rfl) <|
  xA0 (ok_goto (xdd xB_222 dX11_seeksOf_17) rfl) <|
  xA0 (ok_iconst (xdd xB_222 dX11_seeksOf_20) rfl rfl (xrg rfl)) <|
  xA0 (ok_istore_n (xdd xB_222 dX11_seeksOf_21) rfl rfl) <|
  xA0 (ok_iload_n (xdd xB_222 dX11_seeksOf_22) rfl rfl) <|
  xAB (ok_if_eq (xdd xB_222 dX11_seeksOf_23) rfl rfl) <|
  xA0 (ok_aload_n (xdd xB_222 dX11_seeksOf_26) rfl rfl) <|
  xAK rfl (xC1 (ok_callV (xdd xB_222 dX11_seeksOf_27) rfl xq_9 rfl xp_189_0 q1894 q1896 qs82 q124 q1897) xC0) <|
  xA0 (ok_aload_n (xdd xB_222 dX11_seeksOf_30) rfl rfl) <|
  xA0 (ok_iload_n (xdd xB_222 dX11_seeksOf_31) rfl rfl) <|
  xAe
theorem xe_222_1 {s0 : State} {A0 : Array Value} {D : va_G} {ta : Nat → ClassId} {l : Launch} : XAll s0 A0 D ta l 222 xk_222_1 :=
  xAK rfl (xC1 (ok_callV (xdd xB_222 dX11_seeksOf_32) rfl xq_9 rfl xp_223_1 q2033 q2035 qs98 q124 q2036) xC0) <|
  xAB (ok_if_eq (xdd xB_222 dX11_seeksOf_35) rfl rfl) <|
  xA0 (ok_aload_n (xdd xB_222 dX11_seeksOf_38) rfl rfl) <|
  xA1 (ok_getA (xdd xB_222 dX11_seeksOf_39) rfl (lk_f q1423) rfl) <|
  xAK rfl (xC1 (ok_callS (xdd xB_222 dX11_seeksOf_42) rfl xp_190_1 q1898 q1899 q124 q1900) xC0) <|
  xAK rfl (xC1 (ok_callS (xdd xB_222 dX11_seeksOf_45) rfl xp_226_1 q2043 q2044 q124 q2045) xC0) <|
  xA0 (ok_aload_n (xdd xB_222 dX11_seeksOf_48) rfl rfl) <|
  xA1 (ok_getI (xdd xB_222 dX11_seeksOf_49) rfl (lk_f q1438) (by decide)) <|
  xAB (ok_icmp_le (xdd xB_222 dX11_seeksOf_52) rfl rfl) <|
  xA0 (ok_aload_n (xdd xB_222 dX11_seeksOf_55) rfl rfl) <|
  xA0 (ok_aload_n (xdd xB_222 dX11_seeksOf_56) rfl rfl) <|
  xA1 (ok_getA (xdd xB_222 dX11_seeksOf_57) rfl (lk_f q1423) rfl) <|
  xAK rfl (xC1 (ok_callS (xdd xB_222 dX11_seeksOf_60) rfl xp_190_1 q1898 q1899 q124 q1900) xC0) <|
  xAK rfl (xC1 (ok_callS (xdd xB_222 dX11_seeksOf_63) rfl xp_226_1 q2043 q2044 q124 q2045) xC0) <|
  xAe
theorem xe_222_2 {s0 : State} {A0 : Array Value} {D : va_G} {ta : Nat → ClassId} {l : Launch} : XAll s0 A0 D ta l 222 xk_222_2 :=
  xA1 (ok_putI (xdd xB_222 dX11_seeksOf_66) rfl (lk_f q1438) rfl xfd_101 (Or.inl rfl)) <|
  xA0 (ok_aload_n (xdd xB_222 dX11_seeksOf_69) rfl rfl) <|
  xA0 (ok_iload_n (xdd xB_222 dX11_seeksOf_70) rfl rfl) <|
  xA1 (ok_putI (xdd xB_222 dX11_seeksOf_71) rfl (lk_f q1439) rfl xfd_102 (Or.inl rfl)) <|
  xA0 (ok_iconst (xdd xB_222 dX11_seeksOf_74) rfl rfl (xrg rfl)) <|
  xA0 (ok_istore_n (xdd xB_222 dX11_seeksOf_75) rfl rfl) <|
  xA0 (ok_iload_n (xdd xB_222 dX11_seeksOf_76) rfl rfl) <|
  xA0 (ok_iload_n (xdd xB_222 dX11_seeksOf_77) rfl rfl) <|
  xAB (ok_icmp_ge (xdd xB_222 dX11_seeksOf_78) rfl rfl) <|
  xA0 (ok_aload_n (xdd xB_222 dX11_seeksOf_81) rfl rfl) <|
  xA1 (ok_getA (xdd xB_222 dX11_seeksOf_82) rfl (lk_f q1437) rfl) <|
  xA0 (ok_iload_n (xdd xB_222 dX11_seeksOf_85) rfl rfl) <|
  xA0 (ok_aload_n (xdd xB_222 dX11_seeksOf_86) rfl rfl) <|
  xA1 (ok_getA (xdd xB_222 dX11_seeksOf_87) rfl (lk_f q1436) rfl) <|
  xA0 (ok_iload_n (xdd xB_222 dX11_seeksOf_90) rfl rfl) <|
  xA1 (ok_iaload (xdd xB_222 dX11_seeksOf_91) rfl) <|
  xA1 (ok_iastore (xdd xB_222 dX11_seeksOf_92) rfl) <|
  xA1 (ok_iinc (xdd xB_222 dX11_seeksOf_93) rfl) <|
  xAe
theorem xe_222_3 {s0 : State} {A0 : Array Value} {D : va_G} {ta : Nat → ClassId} {l : Launch} : XAll s0 A0 D ta l 222 xk_222_3 :=
  xA0 (ok_goto (xdd xB_222 dX11_seeksOf_96) rfl) <|
  xA0 (ok_aload_n (xdd xB_222 dX11_seeksOf_99) rfl rfl) <|
  xA0 (ok_iload_n (xdd xB_222 dX11_seeksOf_100) rfl rfl) <|
  xAK rfl (xC1 (ok_callV (xdd xB_222 dX11_seeksOf_101) rfl xq_9 rfl xp_227_1 q2046 q2048 qs99 q124 q2049) xC0) <|
  xA0 (ok_istore_n (xdd xB_222 dX11_seeksOf_104) rfl rfl) <|
  xA0 (ok_goto (xdd xB_222 dX11_seeksOf_105) rfl) <|
  xAR (ok_vreturn (xdd xB_222 dX11_seeksOf_108) rfl) <|
  xAe
theorem xe_222 {s0 : State} {A0 : Array Value} {D : va_G} {ta : Nat → ClassId} {l : Launch} : XAllC s0 A0 D ta l 222 xk_222 := ⟨xe_222_0, xe_222_1, xe_222_2, xe_222_3, trivial⟩
theorem xe_223_0 {s0 : State} {A0 : Array Value} {D : va_G} {ta : Nat → ClassId} {l : Launch} : XAll s0 A0 D ta l 223 xk_223_0 :=
  xA0 (ok_iconst (xdd xB_223 dX11_areDone_0) rfl rfl (xrg rfl)) <|
  xA0 (ok_istore_n (xdd xB_223 dX11_areDone_1) rfl rfl) <|
  xA0 (ok_iload_n (xdd xB_223 dX11_areDone_2) rfl rfl) <|
  xA0 (ok_iload_n (xdd xB_223 dX11_areDone_3) rfl rfl) <|
  xAB (ok_icmp_ge (xdd xB_223 dX11_areDone_4) rfl rfl) <|
  xA0 (ok_aload_n (xdd xB_223 dX11_areDone_7) rfl rfl) <|
  xA1 (ok_getA (xdd xB_223 dX11_areDone_8) rfl (lk_f q1436) rfl) <|
  xA0 (ok_iload_n (xdd xB_223 dX11_areDone_11) rfl rfl) <|
  xA1 (ok_iaload (xdd xB_223 dX11_areDone_12) rfl) <|
  xA0 (ok_bipush (xdd xB_223 dX11_areDone_13) rfl rfl (xrg rfl)) <|
  xA1 (ok_idiv (xdd xB_223 dX11_areDone_15) rfl) <|
  xA0 (ok_istore_n (xdd xB_223 dX11_areDone_16) rfl rfl) <|
  xA0 (ok_aload_n (xdd xB_223 dX11_areDone_17) rfl rfl) <|
  xA1 (ok_getA (xdd xB_223 dX11_areDone_18) rfl (lk_f q1436) rfl) <|
  xA0 (ok_iload_n (xdd xB_223 dX11_areDone_21) rfl rfl) <|
  xA1 (ok_iaload (xdd xB_223 dX11_areDone_22) rfl) <|
  xA0 (ok_bipush (xdd xB_223 dX11_areDone_23) rfl rfl (xrg rfl)) <|
  xA1 (ok_irem (xdd xB_223 dX11_areDone_25) rfl) <|
  xA0 (ok_istore (xdd xB_223 dX11_areDone_26) rfl) <|
  xA0 (ok_iload_n (xdd xB_223 dX11_areDone_28) rfl rfl) <|
  xA0 (ok_iload (xdd xB_223 dX11_areDone_29) rfl) <|
  xAB (ok_icmp_ge (xdd xB_223 dX11_areDone_31) rfl rfl) <|
  xAe
theorem xe_223_1 {s0 : State} {A0 : Array Value} {D : va_G} {ta : Nat → ClassId} {l : Launch} : XAll s0 A0 D ta l 223 xk_223_1 :=
  xA0 (ok_iload (xdd xB_223 dX11_areDone_34) rfl) <|
  xA0 (ok_aload_n (xdd xB_223 dX11_areDone_36) rfl rfl) <|
  xA1 (ok_getA (xdd xB_223 dX11_areDone_37) rfl (lk_f q1406) rfl) <|
  xA1 (ok_getI (xdd xB_223 dX11_areDone_40) rfl (lk_n q1546) (by decide)) <|
  xAB (ok_icmp_ge (xdd xB_223 dX11_areDone_43) rfl rfl) <|
  xA0 (ok_aload_n (xdd xB_223 dX11_areDone_46) rfl rfl) <|
  xA1 (ok_getA (xdd xB_223 dX11_areDone_47) rfl (lk_f q1423) rfl) <|
  xA0 (ok_iload_n (xdd xB_223 dX11_areDone_50) rfl rfl) <|
  xA0 (ok_iload (xdd xB_223 dX11_areDone_51) rfl) <|
  xAK rfl (xC1 (ok_callS (xdd xB_223 dX11_areDone_53) rfl xp_224_3 q2037 q2038 q124 q2039) xC0) <|
  xAB (ok_if_ne (xdd xB_223 dX11_areDone_56) rfl rfl) <|
  xA0 (ok_iconst (xdd xB_223 dX11_areDone_59) rfl rfl (xrg rfl)) <|
  xAR (ok_zreturn (xdd xB_223 dX11_areDone_60) rfl) <|
  xA0 (ok_aload_n (xdd xB_223 dX11_areDone_61) rfl rfl) <|
  xA1 (ok_getA (xdd xB_223 dX11_areDone_62) rfl (lk_f q1423) rfl) <|
  xAe
theorem xe_223_2 {s0 : State} {A0 : Array Value} {D : va_G} {ta : Nat → ClassId} {l : Launch} : XAll s0 A0 D ta l 223 xk_223_2 :=
  xA0 (ok_iload_n (xdd xB_223 dX11_areDone_65) rfl rfl) <|
  xA0 (ok_iload (xdd xB_223 dX11_areDone_66) rfl) <|
  xAK rfl (xC1 (ok_callS (xdd xB_223 dX11_areDone_68) rfl xp_225_3 q2040 q2041 q124 q2042) xC0) <|
  xA1 (ok_iinc (xdd xB_223 dX11_areDone_71) rfl) <|
  xA0 (ok_goto (xdd xB_223 dX11_areDone_74) rfl) <|
  xA0 (ok_iconst (xdd xB_223 dX11_areDone_77) rfl rfl (xrg rfl)) <|
  xAR (ok_zreturn (xdd xB_223 dX11_areDone_78) rfl) <|
  xAe
theorem xe_223 {s0 : State} {A0 : Array Value} {D : va_G} {ta : Nat → ClassId} {l : Launch} : XAllC s0 A0 D ta l 223 xk_223 := ⟨xe_223_0, xe_223_1, xe_223_2, trivial⟩
theorem xe_224_0 {s0 : State} {A0 : Array Value} {D : va_G} {ta : Nat → ClassId} {l : Launch} : XAll s0 A0 D ta l 224 xk_224_0 :=
  xA0 (ok_iload_n (xdd xB_224 dX11_canExchange_0) rfl rfl) <|
  xA0 (ok_iload_n (xdd xB_224 dX11_canExchange_1) rfl rfl) <|
  xAB (ok_icmp_eq (xdd xB_224 dX11_canExchange_2) rfl rfl) <|
  xA0 (ok_aload_n (xdd xB_224 dX11_canExchange_5) rfl rfl) <|
  xA0 (ok_iload_n (xdd xB_224 dX11_canExchange_6) rfl rfl) <|
  xA1 (ok_iaload (xdd xB_224 dX11_canExchange_7) rfl) <|
  xA0 (ok_bipush (xdd xB_224 dX11_canExchange_8) rfl rfl (xrg rfl)) <|
  xAB (ok_icmp_eq (xdd xB_224 dX11_canExchange_10) rfl rfl) <|
  xA0 (ok_aload_n (xdd xB_224 dX11_canExchange_13) rfl rfl) <|
  xA0 (ok_iload_n (xdd xB_224 dX11_canExchange_14) rfl rfl) <|
  xA1 (ok_iaload (xdd xB_224 dX11_canExchange_15) rfl) <|
  xA0 (ok_bipush (xdd xB_224 dX11_canExchange_16) rfl rfl (xrg rfl)) <|
  xAB (ok_icmp_eq (xdd xB_224 dX11_canExchange_18) rfl rfl) <|
  xA0 (ok_aload_n (xdd xB_224 dX11_canExchange_21) rfl rfl) <|
  xA0 (ok_iload_n (xdd xB_224 dX11_canExchange_22) rfl rfl) <|
  xA1 (ok_iaload (xdd xB_224 dX11_canExchange_23) rfl) <|
  xA0 (ok_iload_n (xdd xB_224 dX11_canExchange_24) rfl rfl) <|
  xAB (ok_icmp_eq (xdd xB_224 dX11_canExchange_25) rfl rfl) <|
  xA0 (ok_aload_n (xdd xB_224 dX11_canExchange_28) rfl rfl) <|
  xA0 (ok_iload_n (xdd xB_224 dX11_canExchange_29) rfl rfl) <|
  xA1 (ok_iaload (xdd xB_224 dX11_canExchange_30) rfl) <|
  xA0 (ok_iload_n (xdd xB_224 dX11_canExchange_31) rfl rfl) <|
  xAe
theorem xe_224_1 {s0 : State} {A0 : Array Value} {D : va_G} {ta : Nat → ClassId} {l : Launch} : XAll s0 A0 D ta l 224 xk_224_1 :=
  xAB (ok_icmp_eq (xdd xB_224 dX11_canExchange_32) rfl rfl) <|
  xA0 (ok_iconst (xdd xB_224 dX11_canExchange_35) rfl rfl (xrg rfl)) <|
  xA0 (ok_goto (xdd xB_224 dX11_canExchange_36) rfl) <|
  xA0 (ok_iconst (xdd xB_224 dX11_canExchange_39) rfl rfl (xrg rfl)) <|
  xAR (ok_zreturn (xdd xB_224 dX11_canExchange_40) rfl) <|
  xAe
theorem xe_224 {s0 : State} {A0 : Array Value} {D : va_G} {ta : Nat → ClassId} {l : Launch} : XAllC s0 A0 D ta l 224 xk_224 := ⟨xe_224_0, xe_224_1, trivial⟩
theorem xe_225_0 {s0 : State} {A0 : Array Value} {D : va_G} {ta : Nat → ClassId} {l : Launch} : XAll s0 A0 D ta l 225 xk_225_0 :=
  xA0 (ok_aload_n (xdd xB_225 dX11_exchanges_0) rfl rfl) <|
  xA0 (ok_iload_n (xdd xB_225 dX11_exchanges_1) rfl rfl) <|
  xA1 (ok_iaload (xdd xB_225 dX11_exchanges_2) rfl) <|
  xA0 (ok_istore_n (xdd xB_225 dX11_exchanges_3) rfl rfl) <|
  xA0 (ok_aload_n (xdd xB_225 dX11_exchanges_4) rfl rfl) <|
  xA0 (ok_iload_n (xdd xB_225 dX11_exchanges_5) rfl rfl) <|
  xA0 (ok_aload_n (xdd xB_225 dX11_exchanges_6) rfl rfl) <|
  xA0 (ok_iload_n (xdd xB_225 dX11_exchanges_7) rfl rfl) <|
  xA1 (ok_iaload (xdd xB_225 dX11_exchanges_8) rfl) <|
  xA1 (ok_iastore (xdd xB_225 dX11_exchanges_9) rfl) <|
  xA0 (ok_aload_n (xdd xB_225 dX11_exchanges_10) rfl rfl) <|
  xA0 (ok_iload_n (xdd xB_225 dX11_exchanges_11) rfl rfl) <|
  xA0 (ok_iload_n (xdd xB_225 dX11_exchanges_12) rfl rfl) <|
  xA1 (ok_iastore (xdd xB_225 dX11_exchanges_13) rfl) <|
  xAR (ok_vreturn (xdd xB_225 dX11_exchanges_14) rfl) <|
  xAe
theorem xe_225 {s0 : State} {A0 : Array Value} {D : va_G} {ta : Nat → ClassId} {l : Launch} : XAllC s0 A0 D ta l 225 xk_225 := ⟨xe_225_0, trivial⟩
theorem xe_226_0 {s0 : State} {A0 : Array Value} {D : va_G} {ta : Nat → ClassId} {l : Launch} : XAll s0 A0 D ta l 226 xk_226_0 :=
  xA0 (ok_iconst (xdd xB_226 dX11_bits_0) rfl rfl (xrg rfl)) <|
  xA0 (ok_istore_n (xdd xB_226 dX11_bits_1) rfl rfl) <|
  xA0 (ok_iload_n (xdd xB_226 dX11_bits_2) rfl rfl) <|
  xA0 (ok_istore_n (xdd xB_226 dX11_bits_3) rfl rfl) <|
  xA0 (ok_iload_n (xdd xB_226 dX11_bits_4) rfl rfl) <|
  xAB (ok_if_eq (xdd xB_226 dX11_bits_5) rfl rfl) <|
  xA1 (ok_iinc (xdd xB_226 dX11_bits_8) rfl) <|
  xA0 (ok_iload_n (xdd xB_226 dX11_bits_11) rfl rfl) <|
  xA0 (ok_iload_n (xdd xB_226 dX11_bits_12) rfl rfl) <|
  xA0 (ok_iconst (xdd xB_226 dX11_bits_13) rfl rfl (xrg rfl)) <|
  xA1 (ok_isub (xdd xB_226 dX11_bits_14) rfl) <|
  xA0 (ok_iand (xdd xB_226 dX11_bits_15) rfl) <|
  xA0 (ok_istore_n (xdd xB_226 dX11_bits_16) rfl rfl) <|
  xA0 (ok_goto (xdd xB_226 dX11_bits_17) rfl) <|
  xA0 (ok_iload_n (xdd xB_226 dX11_bits_20) rfl rfl) <|
  xAR (ok_ireturn (xdd xB_226 dX11_bits_21) rfl) <|
  xAe
theorem xe_226 {s0 : State} {A0 : Array Value} {D : va_G} {ta : Nat → ClassId} {l : Launch} : XAllC s0 A0 D ta l 226 xk_226 := ⟨xe_226_0, trivial⟩
theorem xe_227_0 {s0 : State} {A0 : Array Value} {D : va_G} {ta : Nat → ClassId} {l : Launch} : XAll s0 A0 D ta l 227 xk_227_0 :=
  xA0 (ok_iload_n (xdd xB_227 dX11_nextPairs_0) rfl rfl) <|
  xA0 (ok_iconst (xdd xB_227 dX11_nextPairs_1) rfl rfl (xrg rfl)) <|
  xA1 (ok_isub (xdd xB_227 dX11_nextPairs_2) rfl) <|
  xA0 (ok_istore_n (xdd xB_227 dX11_nextPairs_3) rfl rfl) <|
  xA0 (ok_iload_n (xdd xB_227 dX11_nextPairs_4) rfl rfl) <|
  xAB (ok_if_lt (xdd xB_227 dX11_nextPairs_5) rfl rfl) <|
  xA0 (ok_aload_n (xdd xB_227 dX11_nextPairs_8) rfl rfl) <|
  xA1 (ok_getA (xdd xB_227 dX11_nextPairs_9) rfl (lk_f q1436) rfl) <|
  xA0 (ok_iload_n (xdd xB_227 dX11_nextPairs_12) rfl rfl) <|
  xA0 (ok_dup2 (xdd xB_227 dX11_nextPairs_13) rfl) <|
  xA1 (ok_iaload (xdd xB_227 dX11_nextPairs_14) rfl) <|
  xA0 (ok_iconst (xdd xB_227 dX11_nextPairs_15) rfl rfl (xrg rfl)) <|
  xA1 (ok_iadd (xdd xB_227 dX11_nextPairs_16) rfl) <|
  xA1 (ok_iastore (xdd xB_227 dX11_nextPairs_17) rfl) <|
  xA0 (ok_aload_n (xdd xB_227 dX11_nextPairs_18) rfl rfl) <|
  xA1 (ok_getA (xdd xB_227 dX11_nextPairs_19) rfl (lk_f q1436) rfl) <|
  xA0 (ok_iload_n (xdd xB_227 dX11_nextPairs_22) rfl rfl) <|
  xA1 (ok_iaload (xdd xB_227 dX11_nextPairs_23) rfl) <|
  xA0 (ok_bipush (xdd xB_227 dX11_nextPairs_24) rfl rfl (xrg rfl)) <|
  xAB (ok_icmp_ge (xdd xB_227 dX11_nextPairs_26) rfl rfl) <|
  xA0 (ok_iconst (xdd xB_227 dX11_nextPairs_29) rfl rfl (xrg rfl)) <|
  xAR (ok_zreturn (xdd xB_227 dX11_nextPairs_30) rfl) <|
  xA0 (ok_aload_n (xdd xB_227 dX11_nextPairs_31) rfl rfl) <|
  xAe
theorem xe_227_1 {s0 : State} {A0 : Array Value} {D : va_G} {ta : Nat → ClassId} {l : Launch} : XAll s0 A0 D ta l 227 xk_227_1 :=
  xA1 (ok_getA (xdd xB_227 dX11_nextPairs_32) rfl (lk_f q1436) rfl) <|
  xA0 (ok_iload_n (xdd xB_227 dX11_nextPairs_35) rfl rfl) <|
  xA0 (ok_iconst (xdd xB_227 dX11_nextPairs_36) rfl rfl (xrg rfl)) <|
  xA1 (ok_iastore (xdd xB_227 dX11_nextPairs_37) rfl) <|
  xA1 (ok_iinc (xdd xB_227 dX11_nextPairs_38) rfl) <|
  xA0 (ok_goto (xdd xB_227 dX11_nextPairs_41) rfl) <|
  xA0 (ok_iconst (xdd xB_227 dX11_nextPairs_44) rfl rfl (xrg rfl)) <|
  xAR (ok_zreturn (xdd xB_227 dX11_nextPairs_45) rfl) <|
  xAe
theorem xe_227 {s0 : State} {A0 : Array Value} {D : va_G} {ta : Nat → ClassId} {l : Launch} : XAllC s0 A0 D ta l 227 xk_227 := ⟨xe_227_0, xe_227_1, trivial⟩
theorem xe_228_0 {s0 : State} {A0 : Array Value} {D : va_G} {ta : Nat → ClassId} {l : Launch} : XAll s0 A0 D ta l 228 xk_228_0 :=
  xA0 (ok_aload_n (xdd xB_228 dX11_fewest_0) rfl rfl) <|
  xA0 (ok_iconst (xdd xB_228 dX11_fewest_1) rfl rfl (xrg rfl)) <|
  xA1 (ok_putI (xdd xB_228 dX11_fewest_2) rfl (lk_f q1403) rfl xfd_66 (Or.inl rfl)) <|
  xA0 (ok_aload_n (xdd xB_228 dX11_fewest_5) rfl rfl) <|
  xA1 (ok_getA (xdd xB_228 dX11_fewest_6) rfl (lk_f q1406) rfl) <|
  xAB (ok_ifnonnull (xdd xB_228 dX11_fewest_9) rfl rfl) <|
  xA0 (ok_aload_n (xdd xB_228 dX11_fewest_12) rfl rfl) <|
  xA0 (ok_iconst (xdd xB_228 dX11_fewest_13) rfl rfl (xrg rfl)) <|
  xAK rfl (xC1 (ok_callV (xdd xB_228 dX11_fewest_14) rfl xq_9 rfl xp_142_1 q1533 q1535 qs49 q124 q1536) xC0) <|
  xAR (ok_ireturn (xdd xB_228 dX11_fewest_17) rfl) <|
  xA0 (ok_aload_n (xdd xB_228 dX11_fewest_18) rfl rfl) <|
  xAK rfl (xC1 (ok_callV (xdd xB_228 dX11_fewest_19) rfl xq_9 rfl xp_221_0 q2025 q2027 qs96 q124 q2028) xC0) <|
  xA0 (ok_aload_n (xdd xB_228 dX11_fewest_22) rfl rfl) <|
  xA0 (ok_aload_n (xdd xB_228 dX11_fewest_23) rfl rfl) <|
  xA1 (ok_getI (xdd xB_228 dX11_fewest_24) rfl (lk_f q1439) (by decide)) <|
  xAK rfl (xC1 (ok_callV (xdd xB_228 dX11_fewest_27) rfl xq_9 rfl xp_174_1 q1829 q1831 qs77 q124 q1832) xC0) <|
  xAR (ok_ireturn (xdd xB_228 dX11_fewest_30) rfl) <|
  xAe
theorem xe_228 {s0 : State} {A0 : Array Value} {D : va_G} {ta : Nat → ClassId} {l : Launch} : XAllC s0 A0 D ta l 228 xk_228 := ⟨xe_228_0, trivial⟩
theorem xe_229_0 {s0 : State} {A0 : Array Value} {D : va_G} {ta : Nat → ClassId} {l : Launch} : XAll s0 A0 D ta l 229 xk_229_0 :=
  xA0 (ok_aload_n (xdd xB_229 dX11_exchangeAt_0) rfl rfl) <|
  xA0 (ok_iconst (xdd xB_229 dX11_exchangeAt_1) rfl rfl (xrg rfl)) <|
  xA1 (ok_putI (xdd xB_229 dX11_exchangeAt_2) rfl (lk_f q1403) rfl xfd_66 (Or.inl rfl)) <|
  xA0 (ok_aload_n (xdd xB_229 dX11_exchangeAt_5) rfl rfl) <|
  xA1 (ok_getA (xdd xB_229 dX11_exchangeAt_6) rfl (lk_f q1406) rfl) <|
  xAB (ok_ifnonnull (xdd xB_229 dX11_exchangeAt_9) rfl rfl) <|
  xA0 (ok_aload_n (xdd xB_229 dX11_exchangeAt_12) rfl rfl) <|
  xA0 (ok_iconst (xdd xB_229 dX11_exchangeAt_13) rfl rfl (xrg rfl)) <|
  xAK rfl (xC1 (ok_callV (xdd xB_229 dX11_exchangeAt_14) rfl xq_9 rfl xp_142_1 q1533 q1535 qs49 q124 q1536) xC0) <|
  xAR (ok_ireturn (xdd xB_229 dX11_exchangeAt_17) rfl) <|
  xA0 (ok_aload_n (xdd xB_229 dX11_exchangeAt_18) rfl rfl) <|
  xAK rfl (xC1 (ok_callV (xdd xB_229 dX11_exchangeAt_19) rfl xq_9 rfl xp_221_0 q2025 q2027 qs96 q124 q2028) xC0) <|
  xA0 (ok_iload_n (xdd xB_229 dX11_exchangeAt_22) rfl rfl) <|
  xAB (ok_if_lt (xdd xB_229 dX11_exchangeAt_23) rfl rfl) <|
  xA0 (ok_iload_n (xdd xB_229 dX11_exchangeAt_26) rfl rfl) <|
  xA0 (ok_aload_n (xdd xB_229 dX11_exchangeAt_27) rfl rfl) <|
  xA1 (ok_getI (xdd xB_229 dX11_exchangeAt_28) rfl (lk_f q1439) (by decide)) <|
  xAB (ok_icmp_ge (xdd xB_229 dX11_exchangeAt_31) rfl rfl) <|
  xAe
theorem xe_229_1 {s0 : State} {A0 : Array Value} {D : va_G} {ta : Nat → ClassId} {l : Launch} : XAll s0 A0 D ta l 229 xk_229_1 :=
  xA0 (ok_aload_n (xdd xB_229 dX11_exchangeAt_34) rfl rfl) <|
  xA0 (ok_bipush (xdd xB_229 dX11_exchangeAt_35) rfl rfl (xrg rfl)) <|
  xA0 (ok_aload_n (xdd xB_229 dX11_exchangeAt_37) rfl rfl) <|
  xA1 (ok_getA (xdd xB_229 dX11_exchangeAt_38) rfl (lk_f q1437) rfl) <|
  xA0 (ok_iload_n (xdd xB_229 dX11_exchangeAt_41) rfl rfl) <|
  xA1 (ok_iaload (xdd xB_229 dX11_exchangeAt_42) rfl) <|
  xA0 (ok_bipush (xdd xB_229 dX11_exchangeAt_43) rfl rfl (xrg rfl)) <|
  xA1 (ok_idiv (xdd xB_229 dX11_exchangeAt_45) rfl) <|
  xA1 (ok_imul (xdd xB_229 dX11_exchangeAt_46) rfl) <|
  xA0 (ok_aload_n (xdd xB_229 dX11_exchangeAt_47) rfl rfl) <|
  xA1 (ok_getA (xdd xB_229 dX11_exchangeAt_48) rfl (lk_f q1437) rfl) <|
  xA0 (ok_iload_n (xdd xB_229 dX11_exchangeAt_51) rfl rfl) <|
  xA1 (ok_iaload (xdd xB_229 dX11_exchangeAt_52) rfl) <|
  xA0 (ok_bipush (xdd xB_229 dX11_exchangeAt_53) rfl rfl (xrg rfl)) <|
  xA1 (ok_irem (xdd xB_229 dX11_exchangeAt_55) rfl) <|
  xA1 (ok_iadd (xdd xB_229 dX11_exchangeAt_56) rfl) <|
  xAK rfl (xC1 (ok_callV (xdd xB_229 dX11_exchangeAt_57) rfl xq_9 rfl xp_174_1 q1829 q1831 qs77 q124 q1832) xC0) <|
  xA0 (ok_goto (xdd xB_229 dX11_exchangeAt_60) rfl) <|
  xA0 (ok_aload_n (xdd xB_229 dX11_exchangeAt_63) rfl rfl) <|
  xAe
theorem xe_229_2 {s0 : State} {A0 : Array Value} {D : va_G} {ta : Nat → ClassId} {l : Launch} : XAll s0 A0 D ta l 229 xk_229_2 :=
  xA0 (ok_iconst (xdd xB_229 dX11_exchangeAt_64) rfl rfl (xrg rfl)) <|
  xAK rfl (xC1 (ok_callV (xdd xB_229 dX11_exchangeAt_65) rfl xq_9 rfl xp_142_1 q1533 q1535 qs49 q124 q1536) xC0) <|
  xAR (ok_ireturn (xdd xB_229 dX11_exchangeAt_68) rfl) <|
  xAe
theorem xe_229 {s0 : State} {A0 : Array Value} {D : va_G} {ta : Nat → ClassId} {l : Launch} : XAllC s0 A0 D ta l 229 xk_229 := ⟨xe_229_0, xe_229_1, xe_229_2, trivial⟩
theorem xe_230_0 {s0 : State} {A0 : Array Value} {D : va_G} {ta : Nat → ClassId} {l : Launch} : XAll s0 A0 D ta l 230 xk_230_0 :=
  xA0 (ok_aload_n (xdd xB_230 dX11_stands_0) rfl rfl) <|
  xA0 (ok_iconst (xdd xB_230 dX11_stands_1) rfl rfl (xrg rfl)) <|
  xA1 (ok_putI (xdd xB_230 dX11_stands_2) rfl (lk_f q1403) rfl xfd_66 (Or.inl rfl)) <|
  xA0 (ok_aload_n (xdd xB_230 dX11_stands_5) rfl rfl) <|
  xA1 (ok_getA (xdd xB_230 dX11_stands_6) rfl (lk_f q1406) rfl) <|
  xAB (ok_ifnonnull (xdd xB_230 dX11_stands_9) rfl rfl) <|
  xA0 (ok_aload_n (xdd xB_230 dX11_stands_12) rfl rfl) <|
  xA0 (ok_iconst (xdd xB_230 dX11_stands_13) rfl rfl (xrg rfl)) <|
  xAK rfl (xC1 (ok_callV (xdd xB_230 dX11_stands_14) rfl xq_9 rfl xp_142_1 q1533 q1535 qs49 q124 q1536) xC0) <|
  xAR (ok_ireturn (xdd xB_230 dX11_stands_17) rfl) <|
  xA0 (ok_iload_n (xdd xB_230 dX11_stands_18) rfl rfl) <|
  xA0 (ok_iconst (xdd xB_230 dX11_stands_19) rfl rfl (xrg rfl)) <|
  xA0 (ok_sipush (xdd xB_230 dX11_stands_20) rfl rfl (xrg rfl)) <|
  xAK rfl (xC1 (ok_callS (xdd xB_230 dX11_stands_23) rfl xp_156_3 q1727 q1728 q124 q1729) xC0) <|
  xAB (ok_if_ne (xdd xB_230 dX11_stands_26) rfl rfl) <|
  xA0 (ok_aload_n (xdd xB_230 dX11_stands_29) rfl rfl) <|
  xA0 (ok_iconst (xdd xB_230 dX11_stands_30) rfl rfl (xrg rfl)) <|
  xAK rfl (xC1 (ok_callV (xdd xB_230 dX11_stands_31) rfl xq_9 rfl xp_142_1 q1533 q1535 qs49 q124 q1536) xC0) <|
  xAe
theorem xe_230_1 {s0 : State} {A0 : Array Value} {D : va_G} {ta : Nat → ClassId} {l : Launch} : XAll s0 A0 D ta l 230 xk_230_1 :=
  xAR (ok_ireturn (xdd xB_230 dX11_stands_34) rfl) <|
  xA0 (ok_iconst (xdd xB_230 dX11_stands_35) rfl rfl (xrg rfl)) <|
  xA0 (ok_istore_n (xdd xB_230 dX11_stands_36) rfl rfl) <|
  xA0 (ok_iconst (xdd xB_230 dX11_stands_37) rfl rfl (xrg rfl)) <|
  xA0 (ok_istore_n (xdd xB_230 dX11_stands_38) rfl rfl) <|
  xA0 (ok_iload_n (xdd xB_230 dX11_stands_39) rfl rfl) <|
  xA0 (ok_iconst (xdd xB_230 dX11_stands_40) rfl rfl (xrg rfl)) <|
  xA0 (ok_aload_n (xdd xB_230 dX11_stands_41) rfl rfl) <|
  xA1 (ok_getA (xdd xB_230 dX11_stands_42) rfl (lk_f q1406) rfl) <|
  xA1 (ok_getI (xdd xB_230 dX11_stands_45) rfl (lk_n q1546) (by decide)) <|
  xA1 (ok_ishl (xdd xB_230 dX11_stands_48) rfl) <|
  xAB (ok_icmp_ge (xdd xB_230 dX11_stands_49) rfl rfl) <|
  xA0 (ok_iload_n (xdd xB_230 dX11_stands_52) rfl rfl) <|
  xA0 (ok_iconst (xdd xB_230 dX11_stands_53) rfl rfl (xrg rfl)) <|
  xAB (ok_icmp_eq (xdd xB_230 dX11_stands_54) rfl rfl) <|
  xA0 (ok_iload_n (xdd xB_230 dX11_stands_57) rfl rfl) <|
  xAK rfl (xC1 (ok_callS (xdd xB_230 dX11_stands_58) rfl xp_226_1 q2043 q2044 q124 q2045) xC0) <|
  xA0 (ok_iload_n (xdd xB_230 dX11_stands_61) rfl rfl) <|
  xAK rfl (xC1 (ok_callS (xdd xB_230 dX11_stands_62) rfl xp_226_1 q2043 q2044 q124 q2045) xC0) <|
  xAe
theorem xe_230_2 {s0 : State} {A0 : Array Value} {D : va_G} {ta : Nat → ClassId} {l : Launch} : XAll s0 A0 D ta l 230 xk_230_2 :=
  xAB (ok_icmp_ge (xdd xB_230 dX11_stands_65) rfl rfl) <|
  xA0 (ok_aload_n (xdd xB_230 dX11_stands_68) rfl rfl) <|
  xA0 (ok_iload_n (xdd xB_230 dX11_stands_69) rfl rfl) <|
  xA0 (ok_iload_n (xdd xB_230 dX11_stands_70) rfl rfl) <|
  xAK rfl (xC1 (ok_callV (xdd xB_230 dX11_stands_71) rfl xq_9 rfl xp_231_2 q2062 q2064 qs100 q124 q2065) xC0) <|
  xAB (ok_if_eq (xdd xB_230 dX11_stands_74) rfl rfl) <|
  xA0 (ok_iload_n (xdd xB_230 dX11_stands_77) rfl rfl) <|
  xA0 (ok_istore_n (xdd xB_230 dX11_stands_78) rfl rfl) <|
  xA1 (ok_iinc (xdd xB_230 dX11_stands_79) rfl) <|
  xA0 (ok_goto (xdd xB_230 dX11_stands_82) rfl) <|
  xA0 (ok_aload_n (xdd xB_230 dX11_stands_85) rfl rfl) <|
  xA0 (ok_iload_n (xdd xB_230 dX11_stands_86) rfl rfl) <|
  xAK rfl (xC1 (ok_callV (xdd xB_230 dX11_stands_87) rfl xq_9 rfl xp_174_1 q1829 q1831 qs77 q124 q1832) xC0) <|
  xAR (ok_ireturn (xdd xB_230 dX11_stands_90) rfl) <|
  xAe
theorem xe_230 {s0 : State} {A0 : Array Value} {D : va_G} {ta : Nat → ClassId} {l : Launch} : XAllC s0 A0 D ta l 230 xk_230 := ⟨xe_230_0, xe_230_1, xe_230_2, trivial⟩
theorem xe_231_0 {s0 : State} {A0 : Array Value} {D : va_G} {ta : Nat → ClassId} {l : Launch} : XAll s0 A0 D ta l 231 xk_231_0 :=
  xA0 (ok_iconst (xdd xB_231 dX11_isStand_0) rfl rfl (xrg rfl)) <|
  xA0 (ok_istore_n (xdd xB_231 dX11_isStand_1) rfl rfl) <|
  xA0 (ok_iload_n (xdd xB_231 dX11_isStand_2) rfl rfl) <|
  xA0 (ok_aload_n (xdd xB_231 dX11_isStand_3) rfl rfl) <|
  xA1 (ok_getA (xdd xB_231 dX11_isStand_4) rfl (lk_f q1406) rfl) <|
  xA1 (ok_getI (xdd xB_231 dX11_isStand_7) rfl (lk_n q1546) (by decide)) <|
  xAB (ok_icmp_ge (xdd xB_231 dX11_isStand_10) rfl rfl) <|
  xA0 (ok_iconst (xdd xB_231 dX11_isStand_13) rfl rfl (xrg rfl)) <|
  xA0 (ok_istore (xdd xB_231 dX11_isStand_14) rfl) <|
  xA0 (ok_iconst (xdd xB_231 dX11_isStand_16) rfl rfl (xrg rfl)) <|
  xA0 (ok_istore (xdd xB_231 dX11_isStand_17) rfl) <|
  xA0 (ok_iload (xdd xB_231 dX11_isStand_19) rfl) <|
  xA0 (ok_aload_n (xdd xB_231 dX11_isStand_21) rfl rfl) <|
  xA1 (ok_getA (xdd xB_231 dX11_isStand_22) rfl (lk_f q1406) rfl) <|
  xA1 (ok_getI (xdd xB_231 dX11_isStand_25) rfl (lk_n q1546) (by decide)) <|
  xAB (ok_icmp_ge (xdd xB_231 dX11_isStand_28) rfl rfl) <|
  xA0 (ok_iload (xdd xB_231 dX11_isStand_31) rfl) <|
  xAe
theorem xe_231_1 {s0 : State} {A0 : Array Value} {D : va_G} {ta : Nat → ClassId} {l : Launch} : XAll s0 A0 D ta l 231 xk_231_1 :=
  xAB (ok_if_ne (xdd xB_231 dX11_isStand_33) rfl rfl) <|
  xA0 (ok_iload_n (xdd xB_231 dX11_isStand_36) rfl rfl) <|
  xA0 (ok_iload (xdd xB_231 dX11_isStand_37) rfl) <|
  xAK rfl (xC1 (ok_callS (xdd xB_231 dX11_isStand_39) rfl xp_180_2 q1853 q1854 q124 q1855) xC0) <|
  xAB (ok_if_eq (xdd xB_231 dX11_isStand_42) rfl rfl) <|
  xA0 (ok_aload_n (xdd xB_231 dX11_isStand_45) rfl rfl) <|
  xA1 (ok_getA (xdd xB_231 dX11_isStand_46) rfl (lk_f q1440) rfl) <|
  xA0 (ok_bipush (xdd xB_231 dX11_isStand_49) rfl rfl (xrg rfl)) <|
  xA0 (ok_iload (xdd xB_231 dX11_isStand_51) rfl) <|
  xA1 (ok_imul (xdd xB_231 dX11_isStand_53) rfl) <|
  xA0 (ok_iload_n (xdd xB_231 dX11_isStand_54) rfl rfl) <|
  xA1 (ok_iadd (xdd xB_231 dX11_isStand_55) rfl) <|
  xA1 (ok_iaload (xdd xB_231 dX11_isStand_56) rfl) <|
  xA0 (ok_iload_n (xdd xB_231 dX11_isStand_57) rfl rfl) <|
  xAB (ok_icmp_gt (xdd xB_231 dX11_isStand_58) rfl rfl) <|
  xA0 (ok_iconst (xdd xB_231 dX11_isStand_61) rfl rfl (xrg rfl)) <|
  xA0 (ok_goto (xdd xB_231 dX11_isStand_62) rfl) <|
  xAe
theorem xe_231_2 {s0 : State} {A0 : Array Value} {D : va_G} {ta : Nat → ClassId} {l : Launch} : XAll s0 A0 D ta l 231 xk_231_2 :=
  xA0 (ok_iconst (xdd xB_231 dX11_isStand_65) rfl rfl (xrg rfl)) <|
  xA0 (ok_istore (xdd xB_231 dX11_isStand_66) rfl) <|
  xA1 (ok_iinc (xdd xB_231 dX11_isStand_68) rfl) <|
  xA0 (ok_goto (xdd xB_231 dX11_isStand_71) rfl) <|
  xA0 (ok_iload (xdd xB_231 dX11_isStand_74) rfl) <|
  xAB (ok_if_ne (xdd xB_231 dX11_isStand_76) rfl rfl) <|
  xA0 (ok_iconst (xdd xB_231 dX11_isStand_79) rfl rfl (xrg rfl)) <|
  xAR (ok_zreturn (xdd xB_231 dX11_isStand_80) rfl) <|
  xA1 (ok_iinc (xdd xB_231 dX11_isStand_81) rfl) <|
  xA0 (ok_goto (xdd xB_231 dX11_isStand_84) rfl) <|
  xA0 (ok_iconst (xdd xB_231 dX11_isStand_87) rfl rfl (xrg rfl)) <|
  xAR (ok_zreturn (xdd xB_231 dX11_isStand_88) rfl) <|
  xAe
theorem xe_231 {s0 : State} {A0 : Array Value} {D : va_G} {ta : Nat → ClassId} {l : Launch} : XAllC s0 A0 D ta l 231 xk_231 := ⟨xe_231_0, xe_231_1, xe_231_2, trivial⟩
theorem xe_232_0 {s0 : State} {A0 : Array Value} {D : va_G} {ta : Nat → ClassId} {l : Launch} : XAll s0 A0 D ta l 232 xk_232_0 :=
  xA0 (ok_aload_n (xdd xB_232 dX11_gain_0) rfl rfl) <|
  xA0 (ok_iconst (xdd xB_232 dX11_gain_1) rfl rfl (xrg rfl)) <|
  xA1 (ok_putI (xdd xB_232 dX11_gain_2) rfl (lk_f q1403) rfl xfd_66 (Or.inl rfl)) <|
  xA0 (ok_aload_n (xdd xB_232 dX11_gain_5) rfl rfl) <|
  xA0 (ok_iload_n (xdd xB_232 dX11_gain_6) rfl rfl) <|
  xAK rfl (xC1 (ok_callV (xdd xB_232 dX11_gain_7) rfl xq_9 rfl xp_178_1 q1845 q1847 qs78 q124 q1848) xC0) <|
  xAB (ok_if_eq (xdd xB_232 dX11_gain_10) rfl rfl) <|
  xA0 (ok_aload_n (xdd xB_232 dX11_gain_13) rfl rfl) <|
  xA0 (ok_iload_n (xdd xB_232 dX11_gain_14) rfl rfl) <|
  xAK rfl (xC1 (ok_callV (xdd xB_232 dX11_gain_15) rfl xq_9 rfl xp_178_1 q1845 q1847 qs78 q124 q1848) xC0) <|
  xAB (ok_if_eq (xdd xB_232 dX11_gain_18) rfl rfl) <|
  xA0 (ok_iload_n (xdd xB_232 dX11_gain_21) rfl rfl) <|
  xA0 (ok_iload_n (xdd xB_232 dX11_gain_22) rfl rfl) <|
  xAB (ok_icmp_ne (xdd xB_232 dX11_gain_23) rfl rfl) <|
  xA0 (ok_aload_n (xdd xB_232 dX11_gain_26) rfl rfl) <|
  xA0 (ok_iconst (xdd xB_232 dX11_gain_27) rfl rfl (xrg rfl)) <|
  xAK rfl (xC1 (ok_callV (xdd xB_232 dX11_gain_28) rfl xq_9 rfl xp_142_1 q1533 q1535 qs49 q124 q1536) xC0) <|
  xAR (ok_ireturn (xdd xB_232 dX11_gain_31) rfl) <|
  xAe
theorem xe_232_1 {s0 : State} {A0 : Array Value} {D : va_G} {ta : Nat → ClassId} {l : Launch} : XAll s0 A0 D ta l 232 xk_232_1 :=
  xA0 (ok_iload_n (xdd xB_232 dX11_gain_32) rfl rfl) <|
  xA0 (ok_iconst (xdd xB_232 dX11_gain_33) rfl rfl (xrg rfl)) <|
  xA0 (ok_bipush (xdd xB_232 dX11_gain_34) rfl rfl (xrg rfl)) <|
  xAK rfl (xC1 (ok_callS (xdd xB_232 dX11_gain_36) rfl xp_156_3 q1727 q1728 q124 q1729) xC0) <|
  xAB (ok_if_eq (xdd xB_232 dX11_gain_39) rfl rfl) <|
  xA0 (ok_iload (xdd xB_232 dX11_gain_42) rfl) <|
  xA0 (ok_iconst (xdd xB_232 dX11_gain_44) rfl rfl (xrg rfl)) <|
  xA0 (ok_bipush (xdd xB_232 dX11_gain_45) rfl rfl (xrg rfl)) <|
  xAK rfl (xC1 (ok_callS (xdd xB_232 dX11_gain_47) rfl xp_156_3 q1727 q1728 q124 q1729) xC0) <|
  xAB (ok_if_ne (xdd xB_232 dX11_gain_50) rfl rfl) <|
  xA0 (ok_aload_n (xdd xB_232 dX11_gain_53) rfl rfl) <|
  xA0 (ok_iconst (xdd xB_232 dX11_gain_54) rfl rfl (xrg rfl)) <|
  xAK rfl (xC1 (ok_callV (xdd xB_232 dX11_gain_55) rfl xq_9 rfl xp_142_1 q1533 q1535 qs49 q124 q1536) xC0) <|
  xAR (ok_ireturn (xdd xB_232 dX11_gain_58) rfl) <|
  xA0 (ok_aload_n (xdd xB_232 dX11_gain_59) rfl rfl) <|
  xA0 (ok_iload (xdd xB_232 dX11_gain_60) rfl) <|
  xAB (ok_if_eq (xdd xB_232 dX11_gain_62) rfl rfl) <|
  xAe
theorem xe_232_2 {s0 : State} {A0 : Array Value} {D : va_G} {ta : Nat → ClassId} {l : Launch} : XAll s0 A0 D ta l 232 xk_232_2 :=
  xA0 (ok_iload (xdd xB_232 dX11_gain_65) rfl) <|
  xA0 (ok_aload_n (xdd xB_232 dX11_gain_67) rfl rfl) <|
  xA0 (ok_iload_n (xdd xB_232 dX11_gain_68) rfl rfl) <|
  xA0 (ok_iload (xdd xB_232 dX11_gain_69) rfl) <|
  xA0 (ok_iload_n (xdd xB_232 dX11_gain_71) rfl rfl) <|
  xA0 (ok_iload_n (xdd xB_232 dX11_gain_72) rfl rfl) <|
  xAK rfl (xC1 (ok_callV (xdd xB_232 dX11_gain_73) rfl xq_9 rfl xp_233_4 q2070 q2072 qs101 q124 q2073) xC0) <|
  xA1 (ok_imul (xdd xB_232 dX11_gain_76) rfl) <|
  xA0 (ok_goto (xdd xB_232 dX11_gain_77) rfl) <|
  xA0 (ok_iload_n (xdd xB_232 dX11_gain_80) rfl rfl) <|
  xA0 (ok_aload_n (xdd xB_232 dX11_gain_81) rfl rfl) <|
  xA0 (ok_iload_n (xdd xB_232 dX11_gain_82) rfl rfl) <|
  xA0 (ok_iload_n (xdd xB_232 dX11_gain_83) rfl rfl) <|
  xA0 (ok_iload_n (xdd xB_232 dX11_gain_84) rfl rfl) <|
  xA0 (ok_iload (xdd xB_232 dX11_gain_85) rfl) <|
  xAK rfl (xC1 (ok_callV (xdd xB_232 dX11_gain_87) rfl xq_9 rfl xp_233_4 q2070 q2072 qs101 q124 q2073) xC0) <|
  xA1 (ok_imul (xdd xB_232 dX11_gain_90) rfl) <|
  xAK rfl (xC1 (ok_callV (xdd xB_232 dX11_gain_91) rfl xq_9 rfl xp_174_1 q1829 q1831 qs77 q124 q1832) xC0) <|
  xAR (ok_ireturn (xdd xB_232 dX11_gain_94) rfl) <|
  xAe
theorem xe_232 {s0 : State} {A0 : Array Value} {D : va_G} {ta : Nat → ClassId} {l : Launch} : XAllC s0 A0 D ta l 232 xk_232 := ⟨xe_232_0, xe_232_1, xe_232_2, trivial⟩
theorem xe_233_0 {s0 : State} {A0 : Array Value} {D : va_G} {ta : Nat → ClassId} {l : Launch} : XAll s0 A0 D ta l 233 xk_233_0 :=
  xA0 (ok_aload_n (xdd xB_233 dX11_tenants_0) rfl rfl) <|
  xA1 (ok_getA (xdd xB_233 dX11_tenants_1) rfl (lk_f q1406) rfl) <|
  xA1 (ok_getA (xdd xB_233 dX11_tenants_4) rfl (lk_n q1558) rfl) <|
  xA0 (ok_iload_n (xdd xB_233 dX11_tenants_7) rfl rfl) <|
  xA1 (ok_iaload (xdd xB_233 dX11_tenants_8) rfl) <|
  xA0 (ok_aload_n (xdd xB_233 dX11_tenants_9) rfl rfl) <|
  xA1 (ok_getA (xdd xB_233 dX11_tenants_10) rfl (lk_f q1406) rfl) <|
  xA1 (ok_getA (xdd xB_233 dX11_tenants_13) rfl (lk_n q1558) rfl) <|
  xA0 (ok_iload_n (xdd xB_233 dX11_tenants_16) rfl rfl) <|
  xA1 (ok_iaload (xdd xB_233 dX11_tenants_17) rfl) <|
  xA1 (ok_iadd (xdd xB_233 dX11_tenants_18) rfl) <|
  xA0 (ok_istore (xdd xB_233 dX11_tenants_19) rfl) <|
  xA0 (ok_aload_n (xdd xB_233 dX11_tenants_21) rfl rfl) <|
  xA0 (ok_iload_n (xdd xB_233 dX11_tenants_22) rfl rfl) <|
  xA0 (ok_iload_n (xdd xB_233 dX11_tenants_23) rfl rfl) <|
  xAK rfl (xC1 (ok_callV (xdd xB_233 dX11_tenants_24) rfl xq_9 rfl xp_234_2 q2074 q2076 qs102 q124 q2077) xC0) <|
  xA0 (ok_aload_n (xdd xB_233 dX11_tenants_27) rfl rfl) <|
  xA0 (ok_iload_n (xdd xB_233 dX11_tenants_28) rfl rfl) <|
  xA0 (ok_iload (xdd xB_233 dX11_tenants_29) rfl) <|
  xAK rfl (xC1 (ok_callV (xdd xB_233 dX11_tenants_31) rfl xq_9 rfl xp_234_2 q2074 q2076 qs102 q124 q2077) xC0) <|
  xAe
theorem xe_233_1 {s0 : State} {A0 : Array Value} {D : va_G} {ta : Nat → ClassId} {l : Launch} : XAll s0 A0 D ta l 233 xk_233_1 :=
  xA1 (ok_isub (xdd xB_233 dX11_tenants_34) rfl) <|
  xA0 (ok_istore (xdd xB_233 dX11_tenants_35) rfl) <|
  xA0 (ok_iload (xdd xB_233 dX11_tenants_37) rfl) <|
  xA0 (ok_aload_n (xdd xB_233 dX11_tenants_39) rfl rfl) <|
  xA1 (ok_getA (xdd xB_233 dX11_tenants_40) rfl (lk_f q1406) rfl) <|
  xA1 (ok_getI (xdd xB_233 dX11_tenants_43) rfl (lk_n q1544) (by decide)) <|
  xAB (ok_icmp_le (xdd xB_233 dX11_tenants_46) rfl rfl) <|
  xA0 (ok_iload (xdd xB_233 dX11_tenants_49) rfl) <|
  xA0 (ok_goto (xdd xB_233 dX11_tenants_51) rfl) <|
  xA0 (ok_iload (xdd xB_233 dX11_tenants_54) rfl) <|
  xA0 (ok_aload_n (xdd xB_233 dX11_tenants_56) rfl rfl) <|
  xA1 (ok_getA (xdd xB_233 dX11_tenants_57) rfl (lk_f q1406) rfl) <|
  xA1 (ok_getI (xdd xB_233 dX11_tenants_60) rfl (lk_n q1544) (by decide)) <|
  xA1 (ok_ineg (xdd xB_233 dX11_tenants_63) rfl) <|
  xAe
theorem xe_233_2 {s0 : State} {A0 : Array Value} {D : va_G} {ta : Nat → ClassId} {l : Launch} : XAll s0 A0 D ta l 233 xk_233_2 :=
  xAB (ok_icmp_ge (xdd xB_233 dX11_tenants_64) rfl rfl) <|
  xA0 (ok_iconst (xdd xB_233 dX11_tenants_67) rfl rfl (xrg rfl)) <|
  xA0 (ok_goto (xdd xB_233 dX11_tenants_68) rfl) <|
  xA0 (ok_iload (xdd xB_233 dX11_tenants_71) rfl) <|
  xA0 (ok_iconst (xdd xB_233 dX11_tenants_73) rfl rfl (xrg rfl)) <|
  xA1 (ok_idiv (xdd xB_233 dX11_tenants_74) rfl) <|
  xAR (ok_ireturn (xdd xB_233 dX11_tenants_75) rfl) <|
  xAe
theorem xe_233 {s0 : State} {A0 : Array Value} {D : va_G} {ta : Nat → ClassId} {l : Launch} : XAllC s0 A0 D ta l 233 xk_233 := ⟨xe_233_0, xe_233_1, xe_233_2, trivial⟩
theorem xe_234_0 {s0 : State} {A0 : Array Value} {D : va_G} {ta : Nat → ClassId} {l : Launch} : XAll s0 A0 D ta l 234 xk_234_0 :=
  xA0 (ok_aload_n (xdd xB_234 dX11_worthOf_0) rfl rfl) <|
  xAK rfl (xC1 (ok_callV (xdd xB_234 dX11_worthOf_1) rfl xq_9 rfl xp_189_0 q1894 q1896 qs82 q124 q1897) xC0) <|
  xA0 (ok_aload_n (xdd xB_234 dX11_worthOf_4) rfl rfl) <|
  xA1 (ok_getA (xdd xB_234 dX11_worthOf_5) rfl (lk_f q1406) rfl) <|
  xA1 (ok_getA (xdd xB_234 dX11_worthOf_8) rfl (lk_n q1558) rfl) <|
  xA0 (ok_iload_n (xdd xB_234 dX11_worthOf_11) rfl rfl) <|
  xA1 (ok_iaload (xdd xB_234 dX11_worthOf_12) rfl) <|
  xA0 (ok_aload_n (xdd xB_234 dX11_worthOf_13) rfl rfl) <|
  xA1 (ok_getA (xdd xB_234 dX11_worthOf_14) rfl (lk_f q1423) rfl) <|
  xAK rfl (xC1 (ok_callS (xdd xB_234 dX11_worthOf_17) rfl xp_190_1 q1898 q1899 q124 q1900) xC0) <|
  xA0 (ok_iload_n (xdd xB_234 dX11_worthOf_20) rfl rfl) <|
  xAK rfl (xC1 (ok_callS (xdd xB_234 dX11_worthOf_21) rfl xp_180_2 q1853 q1854 q124 q1855) xC0) <|
  xAB (ok_if_eq (xdd xB_234 dX11_worthOf_24) rfl rfl) <|
  xA0 (ok_iconst (xdd xB_234 dX11_worthOf_27) rfl rfl (xrg rfl)) <|
  xA0 (ok_goto (xdd xB_234 dX11_worthOf_28) rfl) <|
  xA0 (ok_iconst (xdd xB_234 dX11_worthOf_31) rfl rfl (xrg rfl)) <|
  xAe
theorem xe_234_1 {s0 : State} {A0 : Array Value} {D : va_G} {ta : Nat → ClassId} {l : Launch} : XAll s0 A0 D ta l 234 xk_234_1 :=
  xA1 (ok_iadd (xdd xB_234 dX11_worthOf_32) rfl) <|
  xA0 (ok_iload_n (xdd xB_234 dX11_worthOf_33) rfl rfl) <|
  xA1 (ok_isub (xdd xB_234 dX11_worthOf_34) rfl) <|
  xAR (ok_ireturn (xdd xB_234 dX11_worthOf_35) rfl) <|
  xAe
theorem xe_234 {s0 : State} {A0 : Array Value} {D : va_G} {ta : Nat → ClassId} {l : Launch} : XAllC s0 A0 D ta l 234 xk_234 := ⟨xe_234_0, xe_234_1, trivial⟩
theorem xe_235_0 {s0 : State} {A0 : Array Value} {D : va_G} {ta : Nat → ClassId} {l : Launch} : XAll s0 A0 D ta l 235 xk_235_0 :=
  xA0 (ok_aload_n (xdd xB_235 dX11_rests_0) rfl rfl) <|
  xA0 (ok_iconst (xdd xB_235 dX11_rests_1) rfl rfl (xrg rfl)) <|
  xA1 (ok_putI (xdd xB_235 dX11_rests_2) rfl (lk_f q1403) rfl xfd_66 (Or.inl rfl)) <|
  xA0 (ok_aload_n (xdd xB_235 dX11_rests_5) rfl rfl) <|
  xA0 (ok_iload_n (xdd xB_235 dX11_rests_6) rfl rfl) <|
  xAK rfl (xC1 (ok_callV (xdd xB_235 dX11_rests_7) rfl xq_9 rfl xp_178_1 q1845 q1847 qs78 q124 q1848) xC0) <|
  xAB (ok_if_eq (xdd xB_235 dX11_rests_10) rfl rfl) <|
  xA0 (ok_aload_n (xdd xB_235 dX11_rests_13) rfl rfl) <|
  xA0 (ok_iload_n (xdd xB_235 dX11_rests_14) rfl rfl) <|
  xAK rfl (xC1 (ok_callV (xdd xB_235 dX11_rests_15) rfl xq_9 rfl xp_178_1 q1845 q1847 qs78 q124 q1848) xC0) <|
  xAB (ok_if_eq (xdd xB_235 dX11_rests_18) rfl rfl) <|
  xA0 (ok_iload_n (xdd xB_235 dX11_rests_21) rfl rfl) <|
  xA0 (ok_iload_n (xdd xB_235 dX11_rests_22) rfl rfl) <|
  xAB (ok_icmp_ne (xdd xB_235 dX11_rests_23) rfl rfl) <|
  xA0 (ok_aload_n (xdd xB_235 dX11_rests_26) rfl rfl) <|
  xA0 (ok_iconst (xdd xB_235 dX11_rests_27) rfl rfl (xrg rfl)) <|
  xAK rfl (xC1 (ok_callV (xdd xB_235 dX11_rests_28) rfl xq_9 rfl xp_142_1 q1533 q1535 qs49 q124 q1536) xC0) <|
  xAR (ok_ireturn (xdd xB_235 dX11_rests_31) rfl) <|
  xAe
theorem xe_235_1 {s0 : State} {A0 : Array Value} {D : va_G} {ta : Nat → ClassId} {l : Launch} : XAll s0 A0 D ta l 235 xk_235_1 :=
  xA0 (ok_iconst (xdd xB_235 dX11_rests_32) rfl rfl (xrg rfl)) <|
  xA0 (ok_istore_n (xdd xB_235 dX11_rests_33) rfl rfl) <|
  xA0 (ok_iconst (xdd xB_235 dX11_rests_34) rfl rfl (xrg rfl)) <|
  xA0 (ok_istore (xdd xB_235 dX11_rests_35) rfl) <|
  xA0 (ok_iload (xdd xB_235 dX11_rests_37) rfl) <|
  xA0 (ok_bipush (xdd xB_235 dX11_rests_39) rfl rfl (xrg rfl)) <|
  xAB (ok_icmp_ge (xdd xB_235 dX11_rests_41) rfl rfl) <|
  xA0 (ok_iload_n (xdd xB_235 dX11_rests_44) rfl rfl) <|
  xA0 (ok_aload_n (xdd xB_235 dX11_rests_45) rfl rfl) <|
  xA0 (ok_iload_n (xdd xB_235 dX11_rests_46) rfl rfl) <|
  xA0 (ok_iload_n (xdd xB_235 dX11_rests_47) rfl rfl) <|
  xA0 (ok_iload (xdd xB_235 dX11_rests_48) rfl) <|
  xA0 (ok_bipush (xdd xB_235 dX11_rests_50) rfl rfl (xrg rfl)) <|
  xA1 (ok_idiv (xdd xB_235 dX11_rests_52) rfl) <|
  xA0 (ok_iload (xdd xB_235 dX11_rests_53) rfl) <|
  xA0 (ok_bipush (xdd xB_235 dX11_rests_55) rfl rfl (xrg rfl)) <|
  xA1 (ok_irem (xdd xB_235 dX11_rests_57) rfl) <|
  xAK rfl (xC1 (ok_callV (xdd xB_235 dX11_rests_58) rfl xq_9 rfl xp_236_4 q2082 q2084 qs103 q124 q2085) xC0) <|
  xAB (ok_if_eq (xdd xB_235 dX11_rests_61) rfl rfl) <|
  xAe
theorem xe_235_2 {s0 : State} {A0 : Array Value} {D : va_G} {ta : Nat → ClassId} {l : Launch} : XAll s0 A0 D ta l 235 xk_235_2 :=
  xA0 (ok_iconst (xdd xB_235 dX11_rests_64) rfl rfl (xrg rfl)) <|
  xA0 (ok_goto (xdd xB_235 dX11_rests_65) rfl) <|
  xA0 (ok_iconst (xdd xB_235 dX11_rests_68) rfl rfl (xrg rfl)) <|
  xA1 (ok_iadd (xdd xB_235 dX11_rests_69) rfl) <|
  xA0 (ok_istore_n (xdd xB_235 dX11_rests_70) rfl rfl) <|
  xA1 (ok_iinc (xdd xB_235 dX11_rests_71) rfl) <|
  xA0 (ok_goto (xdd xB_235 dX11_rests_74) rfl) <|
  xA0 (ok_aload_n (xdd xB_235 dX11_rests_77) rfl rfl) <|
  xA0 (ok_iload_n (xdd xB_235 dX11_rests_78) rfl rfl) <|
  xAK rfl (xC1 (ok_callV (xdd xB_235 dX11_rests_79) rfl xq_9 rfl xp_174_1 q1829 q1831 qs77 q124 q1832) xC0) <|
  xAR (ok_ireturn (xdd xB_235 dX11_rests_82) rfl) <|
  xAe
theorem xe_235 {s0 : State} {A0 : Array Value} {D : va_G} {ta : Nat → ClassId} {l : Launch} : XAllC s0 A0 D ta l 235 xk_235 := ⟨xe_235_0, xe_235_1, xe_235_2, trivial⟩
theorem xe_236_0 {s0 : State} {A0 : Array Value} {D : va_G} {ta : Nat → ClassId} {l : Launch} : XAll s0 A0 D ta l 236 xk_236_0 :=
  xA0 (ok_iload_n (xdd xB_236 dX11_isRest_0) rfl rfl) <|
  xA0 (ok_aload_n (xdd xB_236 dX11_isRest_1) rfl rfl) <|
  xA0 (ok_iload_n (xdd xB_236 dX11_isRest_2) rfl rfl) <|
  xA0 (ok_iload_n (xdd xB_236 dX11_isRest_3) rfl rfl) <|
  xA0 (ok_iload_n (xdd xB_236 dX11_isRest_4) rfl rfl) <|
  xA0 (ok_iload (xdd xB_236 dX11_isRest_5) rfl) <|
  xAK rfl (xC1 (ok_callV (xdd xB_236 dX11_isRest_7) rfl xq_9 rfl xp_233_4 q2070 q2072 qs101 q124 q2073) xC0) <|
  xA1 (ok_imul (xdd xB_236 dX11_isRest_10) rfl) <|
  xA0 (ok_istore (xdd xB_236 dX11_isRest_11) rfl) <|
  xA0 (ok_iload (xdd xB_236 dX11_isRest_13) rfl) <|
  xA0 (ok_aload_n (xdd xB_236 dX11_isRest_15) rfl rfl) <|
  xA0 (ok_iload_n (xdd xB_236 dX11_isRest_16) rfl rfl) <|
  xA0 (ok_iload (xdd xB_236 dX11_isRest_17) rfl) <|
  xA0 (ok_iload_n (xdd xB_236 dX11_isRest_19) rfl rfl) <|
  xA0 (ok_iload_n (xdd xB_236 dX11_isRest_20) rfl rfl) <|
  xAK rfl (xC1 (ok_callV (xdd xB_236 dX11_isRest_21) rfl xq_9 rfl xp_233_4 q2070 q2072 qs101 q124 q2073) xC0) <|
  xA1 (ok_imul (xdd xB_236 dX11_isRest_24) rfl) <|
  xA0 (ok_istore (xdd xB_236 dX11_isRest_25) rfl) <|
  xA0 (ok_iconst (xdd xB_236 dX11_isRest_27) rfl rfl (xrg rfl)) <|
  xA0 (ok_istore (xdd xB_236 dX11_isRest_28) rfl) <|
  xA0 (ok_iload (xdd xB_236 dX11_isRest_30) rfl) <|
  xAe
theorem xe_236_1 {s0 : State} {A0 : Array Value} {D : va_G} {ta : Nat → ClassId} {l : Launch} : XAll s0 A0 D ta l 236 xk_236_1 :=
  xA0 (ok_bipush (xdd xB_236 dX11_isRest_32) rfl rfl (xrg rfl)) <|
  xAB (ok_icmp_ge (xdd xB_236 dX11_isRest_34) rfl rfl) <|
  xA0 (ok_iload (xdd xB_236 dX11_isRest_37) rfl) <|
  xA0 (ok_aload_n (xdd xB_236 dX11_isRest_39) rfl rfl) <|
  xA0 (ok_iload_n (xdd xB_236 dX11_isRest_40) rfl rfl) <|
  xA0 (ok_iload (xdd xB_236 dX11_isRest_41) rfl) <|
  xA0 (ok_iload_n (xdd xB_236 dX11_isRest_43) rfl rfl) <|
  xA0 (ok_iload (xdd xB_236 dX11_isRest_44) rfl) <|
  xAK rfl (xC1 (ok_callV (xdd xB_236 dX11_isRest_46) rfl xq_9 rfl xp_233_4 q2070 q2072 qs101 q124 q2073) xC0) <|
  xA1 (ok_imul (xdd xB_236 dX11_isRest_49) rfl) <|
  xA0 (ok_iload (xdd xB_236 dX11_isRest_50) rfl) <|
  xAB (ok_icmp_gt (xdd xB_236 dX11_isRest_52) rfl rfl) <|
  xA0 (ok_iload (xdd xB_236 dX11_isRest_55) rfl) <|
  xA0 (ok_aload_n (xdd xB_236 dX11_isRest_57) rfl rfl) <|
  xA0 (ok_iload_n (xdd xB_236 dX11_isRest_58) rfl rfl) <|
  xA0 (ok_iload (xdd xB_236 dX11_isRest_59) rfl) <|
  xA0 (ok_iload_n (xdd xB_236 dX11_isRest_61) rfl rfl) <|
  xA0 (ok_iload_n (xdd xB_236 dX11_isRest_62) rfl rfl) <|
  xAK rfl (xC1 (ok_callV (xdd xB_236 dX11_isRest_63) rfl xq_9 rfl xp_233_4 q2070 q2072 qs101 q124 q2073) xC0) <|
  xAe
theorem xe_236_2 {s0 : State} {A0 : Array Value} {D : va_G} {ta : Nat → ClassId} {l : Launch} : XAll s0 A0 D ta l 236 xk_236_2 :=
  xA1 (ok_imul (xdd xB_236 dX11_isRest_66) rfl) <|
  xA0 (ok_iload (xdd xB_236 dX11_isRest_67) rfl) <|
  xAB (ok_icmp_le (xdd xB_236 dX11_isRest_69) rfl rfl) <|
  xA0 (ok_iconst (xdd xB_236 dX11_isRest_72) rfl rfl (xrg rfl)) <|
  xAR (ok_zreturn (xdd xB_236 dX11_isRest_73) rfl) <|
  xA1 (ok_iinc (xdd xB_236 dX11_isRest_74) rfl) <|
  xA0 (ok_goto (xdd xB_236 dX11_isRest_77) rfl) <|
  xA0 (ok_iconst (xdd xB_236 dX11_isRest_80) rfl rfl (xrg rfl)) <|
  xAR (ok_zreturn (xdd xB_236 dX11_isRest_81) rfl) <|
  xAe
theorem xe_236 {s0 : State} {A0 : Array Value} {D : va_G} {ta : Nat → ClassId} {l : Launch} : XAllC s0 A0 D ta l 236 xk_236 := ⟨xe_236_0, xe_236_1, xe_236_2, trivial⟩
theorem xe_237_0 {s0 : State} {A0 : Array Value} {D : va_G} {ta : Nat → ClassId} {l : Launch} : XAll s0 A0 D ta l 237 xk_237_0 :=
  xA0 (ok_aload_n (xdd xB_237 dX11_rest_0) rfl rfl) <|
  xA0 (ok_iconst (xdd xB_237 dX11_rest_1) rfl rfl (xrg rfl)) <|
  xA1 (ok_putI (xdd xB_237 dX11_rest_2) rfl (lk_f q1403) rfl xfd_66 (Or.inl rfl)) <|
  xA0 (ok_aload_n (xdd xB_237 dX11_rest_5) rfl rfl) <|
  xA0 (ok_iload_n (xdd xB_237 dX11_rest_6) rfl rfl) <|
  xAK rfl (xC1 (ok_callV (xdd xB_237 dX11_rest_7) rfl xq_9 rfl xp_178_1 q1845 q1847 qs78 q124 q1848) xC0) <|
  xAB (ok_if_eq (xdd xB_237 dX11_rest_10) rfl rfl) <|
  xA0 (ok_aload_n (xdd xB_237 dX11_rest_13) rfl rfl) <|
  xA0 (ok_iload_n (xdd xB_237 dX11_rest_14) rfl rfl) <|
  xAK rfl (xC1 (ok_callV (xdd xB_237 dX11_rest_15) rfl xq_9 rfl xp_178_1 q1845 q1847 qs78 q124 q1848) xC0) <|
  xAB (ok_if_eq (xdd xB_237 dX11_rest_18) rfl rfl) <|
  xA0 (ok_iload_n (xdd xB_237 dX11_rest_21) rfl rfl) <|
  xA0 (ok_iload_n (xdd xB_237 dX11_rest_22) rfl rfl) <|
  xAB (ok_icmp_ne (xdd xB_237 dX11_rest_23) rfl rfl) <|
  xA0 (ok_aload_n (xdd xB_237 dX11_rest_26) rfl rfl) <|
  xA0 (ok_iconst (xdd xB_237 dX11_rest_27) rfl rfl (xrg rfl)) <|
  xAK rfl (xC1 (ok_callV (xdd xB_237 dX11_rest_28) rfl xq_9 rfl xp_142_1 q1533 q1535 qs49 q124 q1536) xC0) <|
  xAR (ok_ireturn (xdd xB_237 dX11_rest_31) rfl) <|
  xAe
theorem xe_237_1 {s0 : State} {A0 : Array Value} {D : va_G} {ta : Nat → ClassId} {l : Launch} : XAll s0 A0 D ta l 237 xk_237_1 :=
  xA0 (ok_iconst (xdd xB_237 dX11_rest_32) rfl rfl (xrg rfl)) <|
  xA0 (ok_istore_n (xdd xB_237 dX11_rest_33) rfl rfl) <|
  xA0 (ok_iload_n (xdd xB_237 dX11_rest_34) rfl rfl) <|
  xA0 (ok_bipush (xdd xB_237 dX11_rest_35) rfl rfl (xrg rfl)) <|
  xAB (ok_icmp_ge (xdd xB_237 dX11_rest_37) rfl rfl) <|
  xA0 (ok_aload_n (xdd xB_237 dX11_rest_40) rfl rfl) <|
  xA0 (ok_iload_n (xdd xB_237 dX11_rest_41) rfl rfl) <|
  xA0 (ok_iload_n (xdd xB_237 dX11_rest_42) rfl rfl) <|
  xA0 (ok_iload_n (xdd xB_237 dX11_rest_43) rfl rfl) <|
  xA0 (ok_bipush (xdd xB_237 dX11_rest_44) rfl rfl (xrg rfl)) <|
  xA1 (ok_idiv (xdd xB_237 dX11_rest_46) rfl) <|
  xA0 (ok_iload_n (xdd xB_237 dX11_rest_47) rfl rfl) <|
  xA0 (ok_bipush (xdd xB_237 dX11_rest_48) rfl rfl (xrg rfl)) <|
  xA1 (ok_irem (xdd xB_237 dX11_rest_50) rfl) <|
  xAK rfl (xC1 (ok_callV (xdd xB_237 dX11_rest_51) rfl xq_9 rfl xp_236_4 q2082 q2084 qs103 q124 q2085) xC0) <|
  xAB (ok_if_eq (xdd xB_237 dX11_rest_54) rfl rfl) <|
  xA0 (ok_aload_n (xdd xB_237 dX11_rest_57) rfl rfl) <|
  xA0 (ok_iload_n (xdd xB_237 dX11_rest_58) rfl rfl) <|
  xAK rfl (xC1 (ok_callV (xdd xB_237 dX11_rest_59) rfl xq_9 rfl xp_174_1 q1829 q1831 qs77 q124 q1832) xC0) <|
  xAR (ok_ireturn (xdd xB_237 dX11_rest_62) rfl) <|
  xA1 (ok_iinc (xdd xB_237 dX11_rest_63) rfl) <|
  xAe
theorem xe_237_2 {s0 : State} {A0 : Array Value} {D : va_G} {ta : Nat → ClassId} {l : Launch} : XAll s0 A0 D ta l 237 xk_237_2 :=
  xA0 (ok_goto (xdd xB_237 dX11_rest_66) rfl) <|
  xA0 (ok_aload_n (xdd xB_237 dX11_rest_69) rfl rfl) <|
  xA0 (ok_bipush (xdd xB_237 dX11_rest_70) rfl rfl (xrg rfl)) <|
  xAK rfl (xC1 (ok_callV (xdd xB_237 dX11_rest_72) rfl xq_9 rfl xp_174_1 q1829 q1831 qs77 q124 q1832) xC0) <|
  xAR (ok_ireturn (xdd xB_237 dX11_rest_75) rfl) <|
  xAe
theorem xe_237 {s0 : State} {A0 : Array Value} {D : va_G} {ta : Nat → ClassId} {l : Launch} : XAllC s0 A0 D ta l 237 xk_237 := ⟨xe_237_0, xe_237_1, xe_237_2, trivial⟩
theorem xe_238_0 {s0 : State} {A0 : Array Value} {D : va_G} {ta : Nat → ClassId} {l : Launch} : XAll s0 A0 D ta l 238 xk_238_0 :=
  xA0 (ok_aload_n (xdd xB_238 dX11_builders_0) rfl rfl) <|
  xA0 (ok_iconst (xdd xB_238 dX11_builders_1) rfl rfl (xrg rfl)) <|
  xA1 (ok_putI (xdd xB_238 dX11_builders_2) rfl (lk_f q1403) rfl xfd_66 (Or.inl rfl)) <|
  xA0 (ok_aload_n (xdd xB_238 dX11_builders_5) rfl rfl) <|
  xA0 (ok_aload_n (xdd xB_238 dX11_builders_6) rfl rfl) <|
  xA1 (ok_getA (xdd xB_238 dX11_builders_7) rfl (lk_f q1406) rfl) <|
  xAB (ok_ifnull (xdd xB_238 dX11_builders_10) rfl rfl) <|
  xA0 (ok_iconst (xdd xB_238 dX11_builders_13) rfl rfl (xrg rfl)) <|
  xA0 (ok_goto (xdd xB_238 dX11_builders_14) rfl) <|
  xA0 (ok_iconst (xdd xB_238 dX11_builders_17) rfl rfl (xrg rfl)) <|
  xA0 (ok_iload_n (xdd xB_238 dX11_builders_18) rfl rfl) <|
  xA0 (ok_iload_n (xdd xB_238 dX11_builders_19) rfl rfl) <|
  xAK rfl (xC1 (ok_callV (xdd xB_238 dX11_builders_20) rfl xq_9 rfl xp_239_3 q2094 q2096 qs104 q124 q2097) xC0) <|
  xA0 (ok_istore_n (xdd xB_238 dX11_builders_23) rfl rfl) <|
  xA0 (ok_iload_n (xdd xB_238 dX11_builders_24) rfl rfl) <|
  xAB (ok_if_le (xdd xB_238 dX11_builders_25) rfl rfl) <|
  xA0 (ok_aload_n (xdd xB_238 dX11_builders_28) rfl rfl) <|
  xA0 (ok_iload_n (xdd xB_238 dX11_builders_29) rfl rfl) <|
  xAK rfl (xC1 (ok_callV (xdd xB_238 dX11_builders_30) rfl xq_9 rfl xp_142_1 q1533 q1535 qs49 q124 q1536) xC0) <|
  xAe
theorem xe_238_1 {s0 : State} {A0 : Array Value} {D : va_G} {ta : Nat → ClassId} {l : Launch} : XAll s0 A0 D ta l 238 xk_238_1 :=
  xA0 (ok_goto (xdd xB_238 dX11_builders_33) rfl) <|
  xA0 (ok_aload_n (xdd xB_238 dX11_builders_36) rfl rfl) <|
  xA0 (ok_aload_n (xdd xB_238 dX11_builders_37) rfl rfl) <|
  xA1 (ok_getA (xdd xB_238 dX11_builders_38) rfl (lk_f q1423) rfl) <|
  xAK rfl (xC1 (ok_callS (xdd xB_238 dX11_builders_41) rfl xp_190_1 q1898 q1899 q124 q1900) xC0) <|
  xAK rfl (xC1 (ok_callS (xdd xB_238 dX11_builders_44) rfl xp_226_1 q2043 q2044 q124 q2045) xC0) <|
  xAK rfl (xC1 (ok_callV (xdd xB_238 dX11_builders_47) rfl xq_9 rfl xp_174_1 q1829 q1831 qs77 q124 q1832) xC0) <|
  xAR (ok_ireturn (xdd xB_238 dX11_builders_50) rfl) <|
  xAe
theorem xe_238 {s0 : State} {A0 : Array Value} {D : va_G} {ta : Nat → ClassId} {l : Launch} : XAllC s0 A0 D ta l 238 xk_238 := ⟨xe_238_0, xe_238_1, trivial⟩
theorem xe_239_0 {s0 : State} {A0 : Array Value} {D : va_G} {ta : Nat → ClassId} {l : Launch} : XAll s0 A0 D ta l 239 xk_239_0 :=
  xA0 (ok_iload_n (xdd xB_239 dX11_builds_0) rfl rfl) <|
  xAB (ok_if_ne (xdd xB_239 dX11_builds_1) rfl rfl) <|
  xA0 (ok_iconst (xdd xB_239 dX11_builds_4) rfl rfl (xrg rfl)) <|
  xAR (ok_ireturn (xdd xB_239 dX11_builds_5) rfl) <|
  xA0 (ok_iload_n (xdd xB_239 dX11_builds_6) rfl rfl) <|
  xA0 (ok_iconst (xdd xB_239 dX11_builds_7) rfl rfl (xrg rfl)) <|
  xA0 (ok_ldcw (xdd xB_239 dX11_builds_8) rfl q2098 rfl (xrg rfl)) <|
  xAK rfl (xC1 (ok_callS (xdd xB_239 dX11_builds_11) rfl xp_156_3 q1727 q1728 q124 q1729) xC0) <|
  xAB (ok_if_eq (xdd xB_239 dX11_builds_14) rfl rfl) <|
  xA0 (ok_iload_n (xdd xB_239 dX11_builds_17) rfl rfl) <|
  xA0 (ok_iconst (xdd xB_239 dX11_builds_18) rfl rfl (xrg rfl)) <|
  xA0 (ok_bipush (xdd xB_239 dX11_builds_19) rfl rfl (xrg rfl)) <|
  xAK rfl (xC1 (ok_callS (xdd xB_239 dX11_builds_21) rfl xp_156_3 q1727 q1728 q124 q1729) xC0) <|
  xAB (ok_if_ne (xdd xB_239 dX11_builds_24) rfl rfl) <|
  xA0 (ok_iconst (xdd xB_239 dX11_builds_27) rfl rfl (xrg rfl)) <|
  xAR (ok_ireturn (xdd xB_239 dX11_builds_28) rfl) <|
  xA0 (ok_aload_n (xdd xB_239 dX11_builds_29) rfl rfl) <|
  xA0 (ok_iload_n (xdd xB_239 dX11_builds_30) rfl rfl) <|
  xA1 (ok_putI (xdd xB_239 dX11_builds_31) rfl (lk_f q1441) rfl xfd_104 (Or.inl rfl)) <|
  xAe
theorem xe_239_1 {s0 : State} {A0 : Array Value} {D : va_G} {ta : Nat → ClassId} {l : Launch} : XAll s0 A0 D ta l 239 xk_239_1 :=
  xA0 (ok_aload_n (xdd xB_239 dX11_builds_34) rfl rfl) <|
  xAK rfl (xC1 (ok_callV (xdd xB_239 dX11_builds_35) rfl xq_9 rfl xp_189_0 q1894 q1896 qs82 q124 q1897) xC0) <|
  xA0 (ok_iconst (xdd xB_239 dX11_builds_38) rfl rfl (xrg rfl)) <|
  xA0 (ok_istore (xdd xB_239 dX11_builds_39) rfl) <|
  xA0 (ok_iload (xdd xB_239 dX11_builds_41) rfl) <|
  xA0 (ok_iload_n (xdd xB_239 dX11_builds_43) rfl rfl) <|
  xAB (ok_icmp_ge (xdd xB_239 dX11_builds_44) rfl rfl) <|
  xA0 (ok_aload_n (xdd xB_239 dX11_builds_47) rfl rfl) <|
  xAK rfl (xC1 (ok_callV (xdd xB_239 dX11_builds_48) rfl xq_9 rfl xp_240_0 q2099 q2101 qs105 q124 q2102) xC0) <|
  xA0 (ok_istore (xdd xB_239 dX11_builds_51) rfl) <|
  xA0 (ok_aload_n (xdd xB_239 dX11_builds_53) rfl rfl) <|
  xAK rfl (xC1 (ok_callV (xdd xB_239 dX11_builds_54) rfl xq_9 rfl xp_240_0 q2099 q2101 qs105 q124 q2102) xC0) <|
  xA0 (ok_istore (xdd xB_239 dX11_builds_57) rfl) <|
  xA0 (ok_aload_n (xdd xB_239 dX11_builds_59) rfl rfl) <|
  xA1 (ok_getA (xdd xB_239 dX11_builds_60) rfl (lk_f q1423) rfl) <|
  xA0 (ok_iload (xdd xB_239 dX11_builds_63) rfl) <|
  xAe
theorem xe_239_2 {s0 : State} {A0 : Array Value} {D : va_G} {ta : Nat → ClassId} {l : Launch} : XAll s0 A0 D ta l 239 xk_239_2 :=
  xA0 (ok_iload (xdd xB_239 dX11_builds_65) rfl) <|
  xAK rfl (xC1 (ok_callS (xdd xB_239 dX11_builds_67) rfl xp_224_3 q2037 q2038 q124 q2039) xC0) <|
  xAB (ok_if_eq (xdd xB_239 dX11_builds_70) rfl rfl) <|
  xA0 (ok_aload_n (xdd xB_239 dX11_builds_73) rfl rfl) <|
  xA1 (ok_getA (xdd xB_239 dX11_builds_74) rfl (lk_f q1423) rfl) <|
  xA0 (ok_iload (xdd xB_239 dX11_builds_77) rfl) <|
  xA0 (ok_iload (xdd xB_239 dX11_builds_79) rfl) <|
  xAK rfl (xC1 (ok_callS (xdd xB_239 dX11_builds_81) rfl xp_225_3 q2040 q2041 q124 q2042) xC0) <|
  xA1 (ok_iinc (xdd xB_239 dX11_builds_84) rfl) <|
  xA0 (ok_goto (xdd xB_239 dX11_builds_87) rfl) <|
  xA0 (ok_iconst (xdd xB_239 dX11_builds_90) rfl rfl (xrg rfl)) <|
  xAR (ok_ireturn (xdd xB_239 dX11_builds_91) rfl) <|
  xAe
theorem xe_239 {s0 : State} {A0 : Array Value} {D : va_G} {ta : Nat → ClassId} {l : Launch} : XAllC s0 A0 D ta l 239 xk_239 := ⟨xe_239_0, xe_239_1, xe_239_2, trivial⟩
theorem xe_240_0 {s0 : State} {A0 : Array Value} {D : va_G} {ta : Nat → ClassId} {l : Launch} : XAll s0 A0 D ta l 240 xk_240_0 :=
  xA0 (ok_aload_n (xdd xB_240 dX11_drawn_0) rfl rfl) <|
  xA0 (ok_ldc2 (xdd xB_240 dX11_drawn_1) rfl q2103 rfl (xrgL rfl)) <|
  xA0 (ok_aload_n (xdd xB_240 dX11_drawn_4) rfl rfl) <|
  xA1 (ok_getI (xdd xB_240 dX11_drawn_5) rfl (lk_f q1441) (by decide)) <|
  xA0 (ok_i2l (xdd xB_240 dX11_drawn_8) rfl) <|
  xA1 (ok_lmul (xdd xB_240 dX11_drawn_9) rfl) <|
  xA0 (ok_ldc2 (xdd xB_240 dX11_drawn_10) rfl q2104 rfl (xrgL rfl)) <|
  xA1 (ok_ladd (xdd xB_240 dX11_drawn_13) rfl) <|
  xA0 (ok_ldc2 (xdd xB_240 dX11_drawn_14) rfl q2105 rfl (xrgL rfl)) <|
  xA1 (ok_lrem (xdd xB_240 dX11_drawn_17) rfl) <|
  xA1 (ok_l2i (xdd xB_240 dX11_drawn_18) rfl) <|
  xA1 (ok_putI (xdd xB_240 dX11_drawn_19) rfl (lk_f q1441) rfl xfd_104 (Or.inl rfl)) <|
  xA0 (ok_aload_n (xdd xB_240 dX11_drawn_22) rfl rfl) <|
  xA1 (ok_getI (xdd xB_240 dX11_drawn_23) rfl (lk_f q1441) (by decide)) <|
  xA0 (ok_aload_n (xdd xB_240 dX11_drawn_26) rfl rfl) <|
  xA1 (ok_getA (xdd xB_240 dX11_drawn_27) rfl (lk_f q1406) rfl) <|
  xA1 (ok_getI (xdd xB_240 dX11_drawn_30) rfl (lk_n q1546) (by decide)) <|
  xAe
theorem xe_240_1 {s0 : State} {A0 : Array Value} {D : va_G} {ta : Nat → ClassId} {l : Launch} : XAll s0 A0 D ta l 240 xk_240_1 :=
  xA1 (ok_irem (xdd xB_240 dX11_drawn_33) rfl) <|
  xAR (ok_ireturn (xdd xB_240 dX11_drawn_34) rfl) <|
  xAe
theorem xe_240 {s0 : State} {A0 : Array Value} {D : va_G} {ta : Nat → ClassId} {l : Launch} : XAllC s0 A0 D ta l 240 xk_240 := ⟨xe_240_0, xe_240_1, trivial⟩
theorem xe_241_0 {s0 : State} {A0 : Array Value} {D : va_G} {ta : Nat → ClassId} {l : Launch} : XAll s0 A0 D ta l 241 xk_241_0 :=
  xA0 (ok_aload_n (xdd xB_241 dX11_builtOf_0) rfl rfl) <|
  xA0 (ok_iconst (xdd xB_241 dX11_builtOf_1) rfl rfl (xrg rfl)) <|
  xA1 (ok_putI (xdd xB_241 dX11_builtOf_2) rfl (lk_f q1403) rfl xfd_66 (Or.inl rfl)) <|
  xA0 (ok_aload_n (xdd xB_241 dX11_builtOf_5) rfl rfl) <|
  xA0 (ok_aload_n (xdd xB_241 dX11_builtOf_6) rfl rfl) <|
  xA0 (ok_iload_n (xdd xB_241 dX11_builtOf_7) rfl rfl) <|
  xAK rfl (xC1 (ok_callV (xdd xB_241 dX11_builtOf_8) rfl xq_9 rfl xp_178_1 q1845 q1847 qs78 q124 q1848) xC0) <|
  xA0 (ok_iload_n (xdd xB_241 dX11_builtOf_11) rfl rfl) <|
  xA0 (ok_iload_n (xdd xB_241 dX11_builtOf_12) rfl rfl) <|
  xAK rfl (xC1 (ok_callV (xdd xB_241 dX11_builtOf_13) rfl xq_9 rfl xp_239_3 q2094 q2096 qs104 q124 q2097) xC0) <|
  xA0 (ok_istore (xdd xB_241 dX11_builtOf_16) rfl) <|
  xA0 (ok_iload (xdd xB_241 dX11_builtOf_18) rfl) <|
  xAB (ok_if_le (xdd xB_241 dX11_builtOf_20) rfl rfl) <|
  xA0 (ok_aload_n (xdd xB_241 dX11_builtOf_23) rfl rfl) <|
  xA0 (ok_iload (xdd xB_241 dX11_builtOf_24) rfl) <|
  xAK rfl (xC1 (ok_callV (xdd xB_241 dX11_builtOf_26) rfl xq_9 rfl xp_142_1 q1533 q1535 qs49 q124 q1536) xC0) <|
  xA0 (ok_goto (xdd xB_241 dX11_builtOf_29) rfl) <|
  xAe
theorem xe_241_1 {s0 : State} {A0 : Array Value} {D : va_G} {ta : Nat → ClassId} {l : Launch} : XAll s0 A0 D ta l 241 xk_241_1 :=
  xA0 (ok_aload_n (xdd xB_241 dX11_builtOf_32) rfl rfl) <|
  xA0 (ok_aload_n (xdd xB_241 dX11_builtOf_33) rfl rfl) <|
  xA1 (ok_getA (xdd xB_241 dX11_builtOf_34) rfl (lk_f q1423) rfl) <|
  xA0 (ok_iload_n (xdd xB_241 dX11_builtOf_37) rfl rfl) <|
  xA1 (ok_iaload (xdd xB_241 dX11_builtOf_38) rfl) <|
  xAK rfl (xC1 (ok_callV (xdd xB_241 dX11_builtOf_39) rfl xq_9 rfl xp_174_1 q1829 q1831 qs77 q124 q1832) xC0) <|
  xAR (ok_ireturn (xdd xB_241 dX11_builtOf_42) rfl) <|
  xAe
theorem xe_241 {s0 : State} {A0 : Array Value} {D : va_G} {ta : Nat → ClassId} {l : Launch} : XAllC s0 A0 D ta l 241 xk_241 := ⟨xe_241_0, xe_241_1, trivial⟩
theorem xe_242_0 {s0 : State} {A0 : Array Value} {D : va_G} {ta : Nat → ClassId} {l : Launch} : XAll s0 A0 D ta l 242 xk_242_0 :=
  xA0 (ok_aload_n (xdd xB_242 dX11_exchange_0) rfl rfl) <|
  xA0 (ok_iconst (xdd xB_242 dX11_exchange_1) rfl rfl (xrg rfl)) <|
  xA1 (ok_putI (xdd xB_242 dX11_exchange_2) rfl (lk_f q1403) rfl xfd_66 (Or.inl rfl)) <|
  xA0 (ok_aload_n (xdd xB_242 dX11_exchange_5) rfl rfl) <|
  xA0 (ok_iload_n (xdd xB_242 dX11_exchange_6) rfl rfl) <|
  xAK rfl (xC1 (ok_callV (xdd xB_242 dX11_exchange_7) rfl xq_9 rfl xp_178_1 q1845 q1847 qs78 q124 q1848) xC0) <|
  xAB (ok_if_eq (xdd xB_242 dX11_exchange_10) rfl rfl) <|
  xA0 (ok_aload_n (xdd xB_242 dX11_exchange_13) rfl rfl) <|
  xA0 (ok_iload_n (xdd xB_242 dX11_exchange_14) rfl rfl) <|
  xAK rfl (xC1 (ok_callV (xdd xB_242 dX11_exchange_15) rfl xq_9 rfl xp_178_1 q1845 q1847 qs78 q124 q1848) xC0) <|
  xAB (ok_if_eq (xdd xB_242 dX11_exchange_18) rfl rfl) <|
  xA0 (ok_iload_n (xdd xB_242 dX11_exchange_21) rfl rfl) <|
  xA0 (ok_iload_n (xdd xB_242 dX11_exchange_22) rfl rfl) <|
  xAB (ok_icmp_ne (xdd xB_242 dX11_exchange_23) rfl rfl) <|
  xA0 (ok_aload_n (xdd xB_242 dX11_exchange_26) rfl rfl) <|
  xA0 (ok_iconst (xdd xB_242 dX11_exchange_27) rfl rfl (xrg rfl)) <|
  xAK rfl (xC1 (ok_callV (xdd xB_242 dX11_exchange_28) rfl xq_9 rfl xp_243_1 q2114 q2116 qs106 q124 q2117) xC0) <|
  xAR (ok_zreturn (xdd xB_242 dX11_exchange_31) rfl) <|
  xAe
theorem xe_242_1 {s0 : State} {A0 : Array Value} {D : va_G} {ta : Nat → ClassId} {l : Launch} : XAll s0 A0 D ta l 242 xk_242_1 :=
  xA0 (ok_aload_n (xdd xB_242 dX11_exchange_32) rfl rfl) <|
  xAK rfl (xC1 (ok_callV (xdd xB_242 dX11_exchange_33) rfl xq_9 rfl xp_189_0 q1894 q1896 qs82 q124 q1897) xC0) <|
  xA0 (ok_aload_n (xdd xB_242 dX11_exchange_36) rfl rfl) <|
  xA1 (ok_getA (xdd xB_242 dX11_exchange_37) rfl (lk_f q1423) rfl) <|
  xA0 (ok_iload_n (xdd xB_242 dX11_exchange_40) rfl rfl) <|
  xA0 (ok_iload_n (xdd xB_242 dX11_exchange_41) rfl rfl) <|
  xAK rfl (xC1 (ok_callS (xdd xB_242 dX11_exchange_42) rfl xp_224_3 q2037 q2038 q124 q2039) xC0) <|
  xAB (ok_if_ne (xdd xB_242 dX11_exchange_45) rfl rfl) <|
  xA0 (ok_aload_n (xdd xB_242 dX11_exchange_48) rfl rfl) <|
  xA0 (ok_iconst (xdd xB_242 dX11_exchange_49) rfl rfl (xrg rfl)) <|
  xAK rfl (xC1 (ok_callV (xdd xB_242 dX11_exchange_50) rfl xq_9 rfl xp_243_1 q2114 q2116 qs106 q124 q2117) xC0) <|
  xAR (ok_zreturn (xdd xB_242 dX11_exchange_53) rfl) <|
  xA0 (ok_aload_n (xdd xB_242 dX11_exchange_54) rfl rfl) <|
  xAK rfl (xC1 (ok_callV (xdd xB_242 dX11_exchange_55) rfl xq_9 rfl xp_244_0 q2118 q2120 qs107 q124 q2121) xC0) <|
  xA0 (ok_aload_n (xdd xB_242 dX11_exchange_58) rfl rfl) <|
  xA1 (ok_getA (xdd xB_242 dX11_exchange_59) rfl (lk_f q1418) rfl) <|
  xA0 (ok_iconst (xdd xB_242 dX11_exchange_62) rfl rfl (xrg rfl)) <|
  xA0 (ok_iload_n (xdd xB_242 dX11_exchange_63) rfl rfl) <|
  xAe
theorem xe_242_2 {s0 : State} {A0 : Array Value} {D : va_G} {ta : Nat → ClassId} {l : Launch} : XAll s0 A0 D ta l 242 xk_242_2 :=
  xA1 (ok_iadd (xdd xB_242 dX11_exchange_64) rfl) <|
  xA0 (ok_aload_n (xdd xB_242 dX11_exchange_65) rfl rfl) <|
  xA1 (ok_getA (xdd xB_242 dX11_exchange_66) rfl (lk_f q1423) rfl) <|
  xA0 (ok_iload_n (xdd xB_242 dX11_exchange_69) rfl rfl) <|
  xA1 (ok_iaload (xdd xB_242 dX11_exchange_70) rfl) <|
  xA1 (ok_iastore (xdd xB_242 dX11_exchange_71) rfl) <|
  xA0 (ok_aload_n (xdd xB_242 dX11_exchange_72) rfl rfl) <|
  xA1 (ok_getA (xdd xB_242 dX11_exchange_73) rfl (lk_f q1418) rfl) <|
  xA0 (ok_iconst (xdd xB_242 dX11_exchange_76) rfl rfl (xrg rfl)) <|
  xA0 (ok_iload_n (xdd xB_242 dX11_exchange_77) rfl rfl) <|
  xA1 (ok_iadd (xdd xB_242 dX11_exchange_78) rfl) <|
  xA0 (ok_aload_n (xdd xB_242 dX11_exchange_79) rfl rfl) <|
  xA1 (ok_getA (xdd xB_242 dX11_exchange_80) rfl (lk_f q1423) rfl) <|
  xA0 (ok_iload_n (xdd xB_242 dX11_exchange_83) rfl rfl) <|
  xA1 (ok_iaload (xdd xB_242 dX11_exchange_84) rfl) <|
  xA1 (ok_iastore (xdd xB_242 dX11_exchange_85) rfl) <|
  xA0 (ok_aload_n (xdd xB_242 dX11_exchange_86) rfl rfl) <|
  xAK rfl (xC1 (ok_callV (xdd xB_242 dX11_exchange_87) rfl xq_9 rfl xp_245_0 q2122 q2124 qs108 q124 q2125) xC0) <|
  xAR (ok_zreturn (xdd xB_242 dX11_exchange_90) rfl) <|
  xAe
theorem xe_242 {s0 : State} {A0 : Array Value} {D : va_G} {ta : Nat → ClassId} {l : Launch} : XAllC s0 A0 D ta l 242 xk_242 := ⟨xe_242_0, xe_242_1, xe_242_2, trivial⟩
theorem xe_243_0 {s0 : State} {A0 : Array Value} {D : va_G} {ta : Nat → ClassId} {l : Launch} : XAll s0 A0 D ta l 243 xk_243_0 :=
  xA0 (ok_aload_n (xdd xB_243 dX11_denied_0) rfl rfl) <|
  xA0 (ok_iload_n (xdd xB_243 dX11_denied_1) rfl rfl) <|
  xAK rfl (xC1 (ok_callV (xdd xB_243 dX11_denied_2) rfl xq_9 rfl xp_142_1 q1533 q1535 qs49 q124 q1536) xC0) <|
  xA0 (ok_pop (xdd xB_243 dX11_denied_5) rfl) <|
  xA0 (ok_iconst (xdd xB_243 dX11_denied_6) rfl rfl (xrg rfl)) <|
  xAR (ok_zreturn (xdd xB_243 dX11_denied_7) rfl) <|
  xAe
theorem xe_243 {s0 : State} {A0 : Array Value} {D : va_G} {ta : Nat → ClassId} {l : Launch} : XAllC s0 A0 D ta l 243 xk_243 := ⟨xe_243_0, trivial⟩
theorem xe_244_0 {s0 : State} {A0 : Array Value} {D : va_G} {ta : Nat → ClassId} {l : Launch} : XAll s0 A0 D ta l 244 xk_244_0 :=
  xA0 (ok_aload_n (xdd xB_244 dX11_remembers_0) rfl rfl) <|
  xA1 (ok_getI (xdd xB_244 dX11_remembers_1) rfl (lk_f q1421) (by decide)) <|
  xA0 (ok_bipush (xdd xB_244 dX11_remembers_4) rfl rfl (xrg rfl)) <|
  xAB (ok_icmp_ne (xdd xB_244 dX11_remembers_6) rfl rfl) <|
  xA0 (ok_iconst (xdd xB_244 dX11_remembers_9) rfl rfl (xrg rfl)) <|
  xA0 (ok_istore_n (xdd xB_244 dX11_remembers_10) rfl rfl) <|
  xA0 (ok_iload_n (xdd xB_244 dX11_remembers_11) rfl rfl) <|
  xA0 (ok_sipush (xdd xB_244 dX11_remembers_12) rfl rfl (xrg rfl)) <|
  xAB (ok_icmp_ge (xdd xB_244 dX11_remembers_15) rfl rfl) <|
  xA0 (ok_aload_n (xdd xB_244 dX11_remembers_18) rfl rfl) <|
  xA1 (ok_getA (xdd xB_244 dX11_remembers_19) rfl (lk_f q1419) rfl) <|
  xA0 (ok_iload_n (xdd xB_244 dX11_remembers_22) rfl rfl) <|
  xA0 (ok_aload_n (xdd xB_244 dX11_remembers_23) rfl rfl) <|
  xA1 (ok_getA (xdd xB_244 dX11_remembers_24) rfl (lk_f q1419) rfl) <|
  xA0 (ok_iload_n (xdd xB_244 dX11_remembers_27) rfl rfl) <|
  xA0 (ok_bipush (xdd xB_244 dX11_remembers_28) rfl rfl (xrg rfl)) <|
  xA1 (ok_iadd (xdd xB_244 dX11_remembers_30) rfl) <|
  xA1 (ok_iaload (xdd xB_244 dX11_remembers_31) rfl) <|
  xAe
theorem xe_244_1 {s0 : State} {A0 : Array Value} {D : va_G} {ta : Nat → ClassId} {l : Launch} : XAll s0 A0 D ta l 244 xk_244_1 :=
  xA1 (ok_iastore (xdd xB_244 dX11_remembers_32) rfl) <|
  xA1 (ok_iinc (xdd xB_244 dX11_remembers_33) rfl) <|
  xA0 (ok_goto (xdd xB_244 dX11_remembers_36) rfl) <|
  xA0 (ok_aload_n (xdd xB_244 dX11_remembers_39) rfl rfl) <|
  xA0 (ok_dup (xdd xB_244 dX11_remembers_40) rfl) <|
  xA1 (ok_getI (xdd xB_244 dX11_remembers_41) rfl (lk_f q1421) (by decide)) <|
  xA0 (ok_iconst (xdd xB_244 dX11_remembers_44) rfl rfl (xrg rfl)) <|
  xA1 (ok_isub (xdd xB_244 dX11_remembers_45) rfl) <|
  xA1 (ok_putI (xdd xB_244 dX11_remembers_46) rfl (lk_f q1421) rfl xfd_84 (Or.inl rfl)) <|
  xA0 (ok_iconst (xdd xB_244 dX11_remembers_49) rfl rfl (xrg rfl)) <|
  xA0 (ok_istore_n (xdd xB_244 dX11_remembers_50) rfl rfl) <|
  xA0 (ok_iload_n (xdd xB_244 dX11_remembers_51) rfl rfl) <|
  xA0 (ok_bipush (xdd xB_244 dX11_remembers_52) rfl rfl (xrg rfl)) <|
  xAB (ok_icmp_ge (xdd xB_244 dX11_remembers_54) rfl rfl) <|
  xA0 (ok_aload_n (xdd xB_244 dX11_remembers_57) rfl rfl) <|
  xA1 (ok_getA (xdd xB_244 dX11_remembers_58) rfl (lk_f q1419) rfl) <|
  xA0 (ok_bipush (xdd xB_244 dX11_remembers_61) rfl rfl (xrg rfl)) <|
  xA0 (ok_aload_n (xdd xB_244 dX11_remembers_63) rfl rfl) <|
  xAe
theorem xe_244_2 {s0 : State} {A0 : Array Value} {D : va_G} {ta : Nat → ClassId} {l : Launch} : XAll s0 A0 D ta l 244 xk_244_2 :=
  xA1 (ok_getI (xdd xB_244 dX11_remembers_64) rfl (lk_f q1421) (by decide)) <|
  xA1 (ok_imul (xdd xB_244 dX11_remembers_67) rfl) <|
  xA0 (ok_iload_n (xdd xB_244 dX11_remembers_68) rfl rfl) <|
  xA1 (ok_iadd (xdd xB_244 dX11_remembers_69) rfl) <|
  xA0 (ok_aload_n (xdd xB_244 dX11_remembers_70) rfl rfl) <|
  xA1 (ok_getA (xdd xB_244 dX11_remembers_71) rfl (lk_f q1418) rfl) <|
  xA0 (ok_iload_n (xdd xB_244 dX11_remembers_74) rfl rfl) <|
  xA1 (ok_iaload (xdd xB_244 dX11_remembers_75) rfl) <|
  xA1 (ok_iastore (xdd xB_244 dX11_remembers_76) rfl) <|
  xA1 (ok_iinc (xdd xB_244 dX11_remembers_77) rfl) <|
  xA0 (ok_goto (xdd xB_244 dX11_remembers_80) rfl) <|
  xA0 (ok_aload_n (xdd xB_244 dX11_remembers_83) rfl rfl) <|
  xA0 (ok_dup (xdd xB_244 dX11_remembers_84) rfl) <|
  xA1 (ok_getI (xdd xB_244 dX11_remembers_85) rfl (lk_f q1421) (by decide)) <|
  xA0 (ok_iconst (xdd xB_244 dX11_remembers_88) rfl rfl (xrg rfl)) <|
  xA1 (ok_iadd (xdd xB_244 dX11_remembers_89) rfl) <|
  xA1 (ok_putI (xdd xB_244 dX11_remembers_90) rfl (lk_f q1421) rfl xfd_84 (Or.inl rfl)) <|
  xAR (ok_vreturn (xdd xB_244 dX11_remembers_93) rfl) <|
  xAe
theorem xe_244 {s0 : State} {A0 : Array Value} {D : va_G} {ta : Nat → ClassId} {l : Launch} : XAllC s0 A0 D ta l 244 xk_244 := ⟨xe_244_0, xe_244_1, xe_244_2, trivial⟩
theorem xe_245_0 {s0 : State} {A0 : Array Value} {D : va_G} {ta : Nat → ClassId} {l : Launch} : XAll s0 A0 D ta l 245 xk_245_0 :=
  xA0 (ok_aload_n (xdd xB_245 dX11_granted_0) rfl rfl) <|
  xA0 (ok_iconst (xdd xB_245 dX11_granted_1) rfl rfl (xrg rfl)) <|
  xAK rfl (xC1 (ok_callV (xdd xB_245 dX11_granted_2) rfl xq_9 rfl xp_174_1 q1829 q1831 qs77 q124 q1832) xC0) <|
  xA0 (ok_pop (xdd xB_245 dX11_granted_5) rfl) <|
  xA0 (ok_iconst (xdd xB_245 dX11_granted_6) rfl rfl (xrg rfl)) <|
  xAR (ok_zreturn (xdd xB_245 dX11_granted_7) rfl) <|
  xAe
theorem xe_245 {s0 : State} {A0 : Array Value} {D : va_G} {ta : Nat → ClassId} {l : Launch} : XAllC s0 A0 D ta l 245 xk_245 := ⟨xe_245_0, trivial⟩
theorem xe_246_0 {s0 : State} {A0 : Array Value} {D : va_G} {ta : Nat → ClassId} {l : Launch} : XAll s0 A0 D ta l 246 xk_246_0 :=
  xA0 (ok_aload_n (xdd xB_246 dX11_shut_0) rfl rfl) <|
  xA0 (ok_iconst (xdd xB_246 dX11_shut_1) rfl rfl (xrg rfl)) <|
  xA1 (ok_putI (xdd xB_246 dX11_shut_2) rfl (lk_f q1403) rfl xfd_66 (Or.inl rfl)) <|
  xA0 (ok_aload_n (xdd xB_246 dX11_shut_5) rfl rfl) <|
  xA0 (ok_iload_n (xdd xB_246 dX11_shut_6) rfl rfl) <|
  xAK rfl (xC1 (ok_callV (xdd xB_246 dX11_shut_7) rfl xq_9 rfl xp_178_1 q1845 q1847 qs78 q124 q1848) xC0) <|
  xAB (ok_if_ne (xdd xB_246 dX11_shut_10) rfl rfl) <|
  xA0 (ok_aload_n (xdd xB_246 dX11_shut_13) rfl rfl) <|
  xA0 (ok_iconst (xdd xB_246 dX11_shut_14) rfl rfl (xrg rfl)) <|
  xAK rfl (xC1 (ok_callV (xdd xB_246 dX11_shut_15) rfl xq_9 rfl xp_243_1 q2114 q2116 qs106 q124 q2117) xC0) <|
  xAR (ok_zreturn (xdd xB_246 dX11_shut_18) rfl) <|
  xA0 (ok_aload_n (xdd xB_246 dX11_shut_19) rfl rfl) <|
  xA1 (ok_getA (xdd xB_246 dX11_shut_20) rfl (lk_f q1418) rfl) <|
  xA0 (ok_bipush (xdd xB_246 dX11_shut_23) rfl rfl (xrg rfl)) <|
  xA1 (ok_iaload (xdd xB_246 dX11_shut_25) rfl) <|
  xA0 (ok_iload_n (xdd xB_246 dX11_shut_26) rfl rfl) <|
  xAK rfl (xC1 (ok_callS (xdd xB_246 dX11_shut_27) rfl xp_180_2 q1853 q1854 q124 q1855) xC0) <|
  xA0 (ok_iload_n (xdd xB_246 dX11_shut_30) rfl rfl) <|
  xAB (ok_icmp_ne (xdd xB_246 dX11_shut_31) rfl rfl) <|
  xAe
theorem xe_246_1 {s0 : State} {A0 : Array Value} {D : va_G} {ta : Nat → ClassId} {l : Launch} : XAll s0 A0 D ta l 246 xk_246_1 :=
  xA0 (ok_aload_n (xdd xB_246 dX11_shut_34) rfl rfl) <|
  xA0 (ok_iconst (xdd xB_246 dX11_shut_35) rfl rfl (xrg rfl)) <|
  xAK rfl (xC1 (ok_callV (xdd xB_246 dX11_shut_36) rfl xq_9 rfl xp_243_1 q2114 q2116 qs106 q124 q2117) xC0) <|
  xAR (ok_zreturn (xdd xB_246 dX11_shut_39) rfl) <|
  xA0 (ok_aload_n (xdd xB_246 dX11_shut_40) rfl rfl) <|
  xAK rfl (xC1 (ok_callV (xdd xB_246 dX11_shut_41) rfl xq_9 rfl xp_244_0 q2118 q2120 qs107 q124 q2121) xC0) <|
  xA0 (ok_aload_n (xdd xB_246 dX11_shut_44) rfl rfl) <|
  xA1 (ok_getA (xdd xB_246 dX11_shut_45) rfl (lk_f q1418) rfl) <|
  xA0 (ok_bipush (xdd xB_246 dX11_shut_48) rfl rfl (xrg rfl)) <|
  xA0 (ok_dup2 (xdd xB_246 dX11_shut_50) rfl) <|
  xA1 (ok_iaload (xdd xB_246 dX11_shut_51) rfl) <|
  xA0 (ok_iconst (xdd xB_246 dX11_shut_52) rfl rfl (xrg rfl)) <|
  xA0 (ok_iload_n (xdd xB_246 dX11_shut_53) rfl rfl) <|
  xA1 (ok_ishl (xdd xB_246 dX11_shut_54) rfl) <|
  xA0 (ok_ixor (xdd xB_246 dX11_shut_55) rfl) <|
  xA1 (ok_iastore (xdd xB_246 dX11_shut_56) rfl) <|
  xA0 (ok_aload_n (xdd xB_246 dX11_shut_57) rfl rfl) <|
  xAK rfl (xC1 (ok_callV (xdd xB_246 dX11_shut_58) rfl xq_9 rfl xp_245_0 q2122 q2124 qs108 q124 q2125) xC0) <|
  xAR (ok_zreturn (xdd xB_246 dX11_shut_61) rfl) <|
  xAe
theorem xe_246 {s0 : State} {A0 : Array Value} {D : va_G} {ta : Nat → ClassId} {l : Launch} : XAllC s0 A0 D ta l 246 xk_246 := ⟨xe_246_0, xe_246_1, trivial⟩
theorem xe_247_0 {s0 : State} {A0 : Array Value} {D : va_G} {ta : Nat → ClassId} {l : Launch} : XAll s0 A0 D ta l 247 xk_247_0 :=
  xA0 (ok_aload_n (xdd xB_247 dX11_go_0) rfl rfl) <|
  xA0 (ok_iconst (xdd xB_247 dX11_go_1) rfl rfl (xrg rfl)) <|
  xA1 (ok_putI (xdd xB_247 dX11_go_2) rfl (lk_f q1403) rfl xfd_66 (Or.inl rfl)) <|
  xA0 (ok_aload_n (xdd xB_247 dX11_go_5) rfl rfl) <|
  xA0 (ok_iload_n (xdd xB_247 dX11_go_6) rfl rfl) <|
  xAK rfl (xC1 (ok_callV (xdd xB_247 dX11_go_7) rfl xq_9 rfl xp_185_1 q1878 q1880 qs81 q124 q1881) xC0) <|
  xAB (ok_if_eq (xdd xB_247 dX11_go_10) rfl rfl) <|
  xA0 (ok_aload_n (xdd xB_247 dX11_go_13) rfl rfl) <|
  xA0 (ok_iload_n (xdd xB_247 dX11_go_14) rfl rfl) <|
  xAK rfl (xC1 (ok_callV (xdd xB_247 dX11_go_15) rfl xq_9 rfl xp_178_1 q1845 q1847 qs78 q124 q1848) xC0) <|
  xAB (ok_if_ne (xdd xB_247 dX11_go_18) rfl rfl) <|
  xA0 (ok_aload_n (xdd xB_247 dX11_go_21) rfl rfl) <|
  xA0 (ok_iconst (xdd xB_247 dX11_go_22) rfl rfl (xrg rfl)) <|
  xAK rfl (xC1 (ok_callV (xdd xB_247 dX11_go_23) rfl xq_9 rfl xp_142_1 q1533 q1535 qs49 q124 q1536) xC0) <|
  xAR (ok_ireturn (xdd xB_247 dX11_go_26) rfl) <|
  xA0 (ok_aload_n (xdd xB_247 dX11_go_27) rfl rfl) <|
  xA1 (ok_getA (xdd xB_247 dX11_go_28) rfl (lk_f q1418) rfl) <|
  xA0 (ok_bipush (xdd xB_247 dX11_go_31) rfl rfl (xrg rfl)) <|
  xAe
theorem xe_247_1 {s0 : State} {A0 : Array Value} {D : va_G} {ta : Nat → ClassId} {l : Launch} : XAll s0 A0 D ta l 247 xk_247_1 :=
  xA0 (ok_iload_n (xdd xB_247 dX11_go_33) rfl rfl) <|
  xA1 (ok_iadd (xdd xB_247 dX11_go_34) rfl) <|
  xA1 (ok_iaload (xdd xB_247 dX11_go_35) rfl) <|
  xA0 (ok_istore_n (xdd xB_247 dX11_go_36) rfl rfl) <|
  xA0 (ok_aload_n (xdd xB_247 dX11_go_37) rfl rfl) <|
  xA1 (ok_getA (xdd xB_247 dX11_go_38) rfl (lk_f q1406) rfl) <|
  xA1 (ok_getA (xdd xB_247 dX11_go_41) rfl (lk_n q1572) rfl) <|
  xA0 (ok_bipush (xdd xB_247 dX11_go_44) rfl rfl (xrg rfl)) <|
  xA0 (ok_iload_n (xdd xB_247 dX11_go_46) rfl rfl) <|
  xA1 (ok_imul (xdd xB_247 dX11_go_47) rfl) <|
  xA0 (ok_iload_n (xdd xB_247 dX11_go_48) rfl rfl) <|
  xA1 (ok_iadd (xdd xB_247 dX11_go_49) rfl) <|
  xA1 (ok_iaload (xdd xB_247 dX11_go_50) rfl) <|
  xA0 (ok_istore (xdd xB_247 dX11_go_51) rfl) <|
  xA0 (ok_aload_n (xdd xB_247 dX11_go_53) rfl rfl) <|
  xA1 (ok_getA (xdd xB_247 dX11_go_54) rfl (lk_f q1418) rfl) <|
  xA0 (ok_iconst (xdd xB_247 dX11_go_57) rfl rfl (xrg rfl)) <|
  xA0 (ok_iload_n (xdd xB_247 dX11_go_58) rfl rfl) <|
  xA1 (ok_iadd (xdd xB_247 dX11_go_59) rfl) <|
  xA1 (ok_iaload (xdd xB_247 dX11_go_60) rfl) <|
  xA0 (ok_iload_n (xdd xB_247 dX11_go_61) rfl rfl) <|
  xAB (ok_icmp_ne (xdd xB_247 dX11_go_62) rfl rfl) <|
  xAe
theorem xe_247_2 {s0 : State} {A0 : Array Value} {D : va_G} {ta : Nat → ClassId} {l : Launch} : XAll s0 A0 D ta l 247 xk_247_2 :=
  xA0 (ok_aload_n (xdd xB_247 dX11_go_65) rfl rfl) <|
  xA0 (ok_iload_n (xdd xB_247 dX11_go_66) rfl rfl) <|
  xA0 (ok_aload_n (xdd xB_247 dX11_go_67) rfl rfl) <|
  xA1 (ok_getA (xdd xB_247 dX11_go_68) rfl (lk_f q1418) rfl) <|
  xA0 (ok_bipush (xdd xB_247 dX11_go_71) rfl rfl (xrg rfl)) <|
  xA0 (ok_iload_n (xdd xB_247 dX11_go_73) rfl rfl) <|
  xA1 (ok_iadd (xdd xB_247 dX11_go_74) rfl) <|
  xA1 (ok_iaload (xdd xB_247 dX11_go_75) rfl) <|
  xA0 (ok_sipush (xdd xB_247 dX11_go_76) rfl rfl (xrg rfl)) <|
  xA1 (ok_irem (xdd xB_247 dX11_go_79) rfl) <|
  xAK rfl (xC1 (ok_callV (xdd xB_247 dX11_go_80) rfl xq_9 rfl xp_182_2 q1860 q1862 qs80 q124 q1863) xC0) <|
  xAB (ok_if_eq (xdd xB_247 dX11_go_83) rfl rfl) <|
  xA0 (ok_iload (xdd xB_247 dX11_go_86) rfl) <|
  xAB (ok_if_eq (xdd xB_247 dX11_go_88) rfl rfl) <|
  xA0 (ok_aload_n (xdd xB_247 dX11_go_91) rfl rfl) <|
  xA1 (ok_getA (xdd xB_247 dX11_go_92) rfl (lk_f q1406) rfl) <|
  xA1 (ok_getI (xdd xB_247 dX11_go_95) rfl (lk_n q1543) (by decide)) <|
  xAe
theorem xe_247_3 {s0 : State} {A0 : Array Value} {D : va_G} {ta : Nat → ClassId} {l : Launch} : XAll s0 A0 D ta l 247 xk_247_3 :=
  xA0 (ok_iload (xdd xB_247 dX11_go_98) rfl) <|
  xAB (ok_icmp_ge (xdd xB_247 dX11_go_100) rfl rfl) <|
  xA0 (ok_aload_n (xdd xB_247 dX11_go_103) rfl rfl) <|
  xA1 (ok_getA (xdd xB_247 dX11_go_104) rfl (lk_f q1406) rfl) <|
  xA1 (ok_getI (xdd xB_247 dX11_go_107) rfl (lk_n q1543) (by decide)) <|
  xA0 (ok_istore (xdd xB_247 dX11_go_110) rfl) <|
  xA0 (ok_iload_n (xdd xB_247 dX11_go_112) rfl rfl) <|
  xA0 (ok_iload_n (xdd xB_247 dX11_go_113) rfl rfl) <|
  xAB (ok_icmp_eq (xdd xB_247 dX11_go_114) rfl rfl) <|
  xA0 (ok_iload (xdd xB_247 dX11_go_117) rfl) <|
  xAB (ok_if_ne (xdd xB_247 dX11_go_119) rfl rfl) <|
  xA0 (ok_aload_n (xdd xB_247 dX11_go_122) rfl rfl) <|
  xA0 (ok_iconst (xdd xB_247 dX11_go_123) rfl rfl (xrg rfl)) <|
  xAK rfl (xC1 (ok_callV (xdd xB_247 dX11_go_124) rfl xq_9 rfl xp_142_1 q1533 q1535 qs49 q124 q1536) xC0) <|
  xAR (ok_ireturn (xdd xB_247 dX11_go_127) rfl) <|
  xAe
theorem xe_247_4 {s0 : State} {A0 : Array Value} {D : va_G} {ta : Nat → ClassId} {l : Launch} : XAll s0 A0 D ta l 247 xk_247_4 :=
  xA0 (ok_aload_n (xdd xB_247 dX11_go_128) rfl rfl) <|
  xAK rfl (xC1 (ok_callV (xdd xB_247 dX11_go_129) rfl xq_9 rfl xp_244_0 q2118 q2120 qs107 q124 q2121) xC0) <|
  xA0 (ok_aload_n (xdd xB_247 dX11_go_132) rfl rfl) <|
  xA1 (ok_getA (xdd xB_247 dX11_go_133) rfl (lk_f q1418) rfl) <|
  xA0 (ok_bipush (xdd xB_247 dX11_go_136) rfl rfl (xrg rfl)) <|
  xA0 (ok_iload_n (xdd xB_247 dX11_go_138) rfl rfl) <|
  xA1 (ok_iadd (xdd xB_247 dX11_go_139) rfl) <|
  xA0 (ok_iload_n (xdd xB_247 dX11_go_140) rfl rfl) <|
  xA1 (ok_iastore (xdd xB_247 dX11_go_141) rfl) <|
  xA0 (ok_aload_n (xdd xB_247 dX11_go_142) rfl rfl) <|
  xA1 (ok_getA (xdd xB_247 dX11_go_143) rfl (lk_f q1418) rfl) <|
  xA0 (ok_bipush (xdd xB_247 dX11_go_146) rfl rfl (xrg rfl)) <|
  xA0 (ok_iload_n (xdd xB_247 dX11_go_148) rfl rfl) <|
  xA1 (ok_iadd (xdd xB_247 dX11_go_149) rfl) <|
  xA0 (ok_dup2 (xdd xB_247 dX11_go_150) rfl) <|
  xA1 (ok_iaload (xdd xB_247 dX11_go_151) rfl) <|
  xA0 (ok_iload (xdd xB_247 dX11_go_152) rfl) <|
  xA1 (ok_iadd (xdd xB_247 dX11_go_154) rfl) <|
  xA1 (ok_iastore (xdd xB_247 dX11_go_155) rfl) <|
  xA0 (ok_aload_n (xdd xB_247 dX11_go_156) rfl rfl) <|
  xA0 (ok_aload_n (xdd xB_247 dX11_go_157) rfl rfl) <|
  xA1 (ok_getA (xdd xB_247 dX11_go_158) rfl (lk_f q1418) rfl) <|
  xAe
theorem xe_247_5 {s0 : State} {A0 : Array Value} {D : va_G} {ta : Nat → ClassId} {l : Launch} : XAll s0 A0 D ta l 247 xk_247_5 :=
  xA0 (ok_bipush (xdd xB_247 dX11_go_161) rfl rfl (xrg rfl)) <|
  xA0 (ok_iload_n (xdd xB_247 dX11_go_163) rfl rfl) <|
  xA1 (ok_iadd (xdd xB_247 dX11_go_164) rfl) <|
  xA1 (ok_iaload (xdd xB_247 dX11_go_165) rfl) <|
  xAK rfl (xC1 (ok_callV (xdd xB_247 dX11_go_166) rfl xq_9 rfl xp_174_1 q1829 q1831 qs77 q124 q1832) xC0) <|
  xAR (ok_ireturn (xdd xB_247 dX11_go_169) rfl) <|
  xAe
theorem xe_247 {s0 : State} {A0 : Array Value} {D : va_G} {ta : Nat → ClassId} {l : Launch} : XAllC s0 A0 D ta l 247 xk_247 := ⟨xe_247_0, xe_247_1, xe_247_2, xe_247_3, xe_247_4, xe_247_5, trivial⟩
theorem xe_248_0 {s0 : State} {A0 : Array Value} {D : va_G} {ta : Nat → ClassId} {l : Launch} : XAll s0 A0 D ta l 248 xk_248_0 :=
  xA0 (ok_aload_n (xdd xB_248 dX11_waits_0) rfl rfl) <|
  xA0 (ok_iconst (xdd xB_248 dX11_waits_1) rfl rfl (xrg rfl)) <|
  xA1 (ok_putI (xdd xB_248 dX11_waits_2) rfl (lk_f q1403) rfl xfd_66 (Or.inl rfl)) <|
  xA0 (ok_aload_n (xdd xB_248 dX11_waits_5) rfl rfl) <|
  xA0 (ok_iload_n (xdd xB_248 dX11_waits_6) rfl rfl) <|
  xAK rfl (xC1 (ok_callV (xdd xB_248 dX11_waits_7) rfl xq_9 rfl xp_185_1 q1878 q1880 qs81 q124 q1881) xC0) <|
  xAB (ok_if_ne (xdd xB_248 dX11_waits_10) rfl rfl) <|
  xA0 (ok_aload_n (xdd xB_248 dX11_waits_13) rfl rfl) <|
  xA0 (ok_iconst (xdd xB_248 dX11_waits_14) rfl rfl (xrg rfl)) <|
  xAK rfl (xC1 (ok_callV (xdd xB_248 dX11_waits_15) rfl xq_9 rfl xp_142_1 q1533 q1535 qs49 q124 q1536) xC0) <|
  xAR (ok_ireturn (xdd xB_248 dX11_waits_18) rfl) <|
  xA0 (ok_iload_n (xdd xB_248 dX11_waits_19) rfl rfl) <|
  xA0 (ok_iconst (xdd xB_248 dX11_waits_20) rfl rfl (xrg rfl)) <|
  xA0 (ok_sipush (xdd xB_248 dX11_waits_21) rfl rfl (xrg rfl)) <|
  xAK rfl (xC1 (ok_callS (xdd xB_248 dX11_waits_24) rfl xp_156_3 q1727 q1728 q124 q1729) xC0) <|
  xAB (ok_if_ne (xdd xB_248 dX11_waits_27) rfl rfl) <|
  xA0 (ok_aload_n (xdd xB_248 dX11_waits_30) rfl rfl) <|
  xA0 (ok_iconst (xdd xB_248 dX11_waits_31) rfl rfl (xrg rfl)) <|
  xAe
theorem xe_248_1 {s0 : State} {A0 : Array Value} {D : va_G} {ta : Nat → ClassId} {l : Launch} : XAll s0 A0 D ta l 248 xk_248_1 :=
  xAK rfl (xC1 (ok_callV (xdd xB_248 dX11_waits_32) rfl xq_9 rfl xp_142_1 q1533 q1535 qs49 q124 q1536) xC0) <|
  xAR (ok_ireturn (xdd xB_248 dX11_waits_35) rfl) <|
  xA0 (ok_aload_n (xdd xB_248 dX11_waits_36) rfl rfl) <|
  xAK rfl (xC1 (ok_callV (xdd xB_248 dX11_waits_37) rfl xq_9 rfl xp_244_0 q2118 q2120 qs107 q124 q2121) xC0) <|
  xA0 (ok_aload_n (xdd xB_248 dX11_waits_40) rfl rfl) <|
  xA1 (ok_getA (xdd xB_248 dX11_waits_41) rfl (lk_f q1418) rfl) <|
  xA0 (ok_bipush (xdd xB_248 dX11_waits_44) rfl rfl (xrg rfl)) <|
  xA0 (ok_iload_n (xdd xB_248 dX11_waits_46) rfl rfl) <|
  xA1 (ok_iadd (xdd xB_248 dX11_waits_47) rfl) <|
  xA0 (ok_dup2 (xdd xB_248 dX11_waits_48) rfl) <|
  xA1 (ok_iaload (xdd xB_248 dX11_waits_49) rfl) <|
  xA0 (ok_iload_n (xdd xB_248 dX11_waits_50) rfl rfl) <|
  xA1 (ok_iadd (xdd xB_248 dX11_waits_51) rfl) <|
  xA1 (ok_iastore (xdd xB_248 dX11_waits_52) rfl) <|
  xA0 (ok_aload_n (xdd xB_248 dX11_waits_53) rfl rfl) <|
  xA0 (ok_aload_n (xdd xB_248 dX11_waits_54) rfl rfl) <|
  xA1 (ok_getA (xdd xB_248 dX11_waits_55) rfl (lk_f q1418) rfl) <|
  xA0 (ok_bipush (xdd xB_248 dX11_waits_58) rfl rfl (xrg rfl)) <|
  xA0 (ok_iload_n (xdd xB_248 dX11_waits_60) rfl rfl) <|
  xA1 (ok_iadd (xdd xB_248 dX11_waits_61) rfl) <|
  xA1 (ok_iaload (xdd xB_248 dX11_waits_62) rfl) <|
  xAK rfl (xC1 (ok_callV (xdd xB_248 dX11_waits_63) rfl xq_9 rfl xp_174_1 q1829 q1831 qs77 q124 q1832) xC0) <|
  xAe
theorem xe_248_2 {s0 : State} {A0 : Array Value} {D : va_G} {ta : Nat → ClassId} {l : Launch} : XAll s0 A0 D ta l 248 xk_248_2 :=
  xAR (ok_ireturn (xdd xB_248 dX11_waits_66) rfl) <|
  xAe
theorem xe_248 {s0 : State} {A0 : Array Value} {D : va_G} {ta : Nat → ClassId} {l : Launch} : XAllC s0 A0 D ta l 248 xk_248 := ⟨xe_248_0, xe_248_1, xe_248_2, trivial⟩
theorem xe_249_0 {s0 : State} {A0 : Array Value} {D : va_G} {ta : Nat → ClassId} {l : Launch} : XAll s0 A0 D ta l 249 xk_249_0 :=
  xA0 (ok_aload_n (xdd xB_249 dX11_undo_0) rfl rfl) <|
  xA0 (ok_iconst (xdd xB_249 dX11_undo_1) rfl rfl (xrg rfl)) <|
  xA1 (ok_putI (xdd xB_249 dX11_undo_2) rfl (lk_f q1403) rfl xfd_66 (Or.inl rfl)) <|
  xA0 (ok_aload_n (xdd xB_249 dX11_undo_5) rfl rfl) <|
  xA1 (ok_getA (xdd xB_249 dX11_undo_6) rfl (lk_f q1406) rfl) <|
  xAB (ok_ifnull (xdd xB_249 dX11_undo_9) rfl rfl) <|
  xA0 (ok_aload_n (xdd xB_249 dX11_undo_12) rfl rfl) <|
  xA1 (ok_getI (xdd xB_249 dX11_undo_13) rfl (lk_f q1421) (by decide)) <|
  xAB (ok_if_ne (xdd xB_249 dX11_undo_16) rfl rfl) <|
  xA0 (ok_aload_n (xdd xB_249 dX11_undo_19) rfl rfl) <|
  xA0 (ok_bipush (xdd xB_249 dX11_undo_20) rfl rfl (xrg rfl)) <|
  xAK rfl (xC1 (ok_callV (xdd xB_249 dX11_undo_22) rfl xq_9 rfl xp_243_1 q2114 q2116 qs106 q124 q2117) xC0) <|
  xAR (ok_zreturn (xdd xB_249 dX11_undo_25) rfl) <|
  xA0 (ok_aload_n (xdd xB_249 dX11_undo_26) rfl rfl) <|
  xA0 (ok_dup (xdd xB_249 dX11_undo_27) rfl) <|
  xA1 (ok_getI (xdd xB_249 dX11_undo_28) rfl (lk_f q1421) (by decide)) <|
  xA0 (ok_iconst (xdd xB_249 dX11_undo_31) rfl rfl (xrg rfl)) <|
  xAe
theorem xe_249_1 {s0 : State} {A0 : Array Value} {D : va_G} {ta : Nat → ClassId} {l : Launch} : XAll s0 A0 D ta l 249 xk_249_1 :=
  xA1 (ok_isub (xdd xB_249 dX11_undo_32) rfl) <|
  xA1 (ok_putI (xdd xB_249 dX11_undo_33) rfl (lk_f q1421) rfl xfd_84 (Or.inl rfl)) <|
  xA0 (ok_iconst (xdd xB_249 dX11_undo_36) rfl rfl (xrg rfl)) <|
  xA0 (ok_istore_n (xdd xB_249 dX11_undo_37) rfl rfl) <|
  xA0 (ok_iload_n (xdd xB_249 dX11_undo_38) rfl rfl) <|
  xA0 (ok_bipush (xdd xB_249 dX11_undo_39) rfl rfl (xrg rfl)) <|
  xAB (ok_icmp_ge (xdd xB_249 dX11_undo_41) rfl rfl) <|
  xA0 (ok_aload_n (xdd xB_249 dX11_undo_44) rfl rfl) <|
  xA1 (ok_getA (xdd xB_249 dX11_undo_45) rfl (lk_f q1418) rfl) <|
  xA0 (ok_iload_n (xdd xB_249 dX11_undo_48) rfl rfl) <|
  xA0 (ok_aload_n (xdd xB_249 dX11_undo_49) rfl rfl) <|
  xA1 (ok_getA (xdd xB_249 dX11_undo_50) rfl (lk_f q1419) rfl) <|
  xA0 (ok_bipush (xdd xB_249 dX11_undo_53) rfl rfl (xrg rfl)) <|
  xA0 (ok_aload_n (xdd xB_249 dX11_undo_55) rfl rfl) <|
  xA1 (ok_getI (xdd xB_249 dX11_undo_56) rfl (lk_f q1421) (by decide)) <|
  xA1 (ok_imul (xdd xB_249 dX11_undo_59) rfl) <|
  xA0 (ok_iload_n (xdd xB_249 dX11_undo_60) rfl rfl) <|
  xA1 (ok_iadd (xdd xB_249 dX11_undo_61) rfl) <|
  xA1 (ok_iaload (xdd xB_249 dX11_undo_62) rfl) <|
  xA1 (ok_iastore (xdd xB_249 dX11_undo_63) rfl) <|
  xAe
theorem xe_249_2 {s0 : State} {A0 : Array Value} {D : va_G} {ta : Nat → ClassId} {l : Launch} : XAll s0 A0 D ta l 249 xk_249_2 :=
  xA1 (ok_iinc (xdd xB_249 dX11_undo_64) rfl) <|
  xA0 (ok_goto (xdd xB_249 dX11_undo_67) rfl) <|
  xA0 (ok_aload_n (xdd xB_249 dX11_undo_70) rfl rfl) <|
  xAK rfl (xC1 (ok_callV (xdd xB_249 dX11_undo_71) rfl xq_9 rfl xp_245_0 q2122 q2124 qs108 q124 q2125) xC0) <|
  xAR (ok_zreturn (xdd xB_249 dX11_undo_74) rfl) <|
  xAe
theorem xe_249 {s0 : State} {A0 : Array Value} {D : va_G} {ta : Nat → ClassId} {l : Launch} : XAllC s0 A0 D ta l 249 xk_249 := ⟨xe_249_0, xe_249_1, xe_249_2, trivial⟩
