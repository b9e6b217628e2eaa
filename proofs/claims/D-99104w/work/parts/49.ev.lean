/-! EVIDENCE: methods 250 to 399 -/
set_option maxRecDepth 100000
set_option maxHeartbeats 4000000
theorem xe_250_0 {s0 : State} {A0 : Array Value} {D : va_G} {ta : Nat → ClassId} {l : Launch} : XAll s0 A0 D ta l 250 xk_250_0 :=
  xA0 (ok_aload_n (xdd xB_250 dX11_mark_0) rfl rfl) <|
  xA0 (ok_iconst (xdd xB_250 dX11_mark_1) rfl rfl (xrg rfl)) <|
  xA1 (ok_putI (xdd xB_250 dX11_mark_2) rfl (lk_f q1403) rfl xfd_66 (Or.inl rfl)) <|
  xA0 (ok_aload_n (xdd xB_250 dX11_mark_5) rfl rfl) <|
  xA1 (ok_getA (xdd xB_250 dX11_mark_6) rfl (lk_f q1406) rfl) <|
  xAB (ok_ifnonnull (xdd xB_250 dX11_mark_9) rfl rfl) <|
  xA0 (ok_aload_n (xdd xB_250 dX11_mark_12) rfl rfl) <|
  xA0 (ok_iconst (xdd xB_250 dX11_mark_13) rfl rfl (xrg rfl)) <|
  xAK rfl (xC1 (ok_callV (xdd xB_250 dX11_mark_14) rfl xq_9 rfl xp_142_1 q1533 q1535 qs49 q124 q1536) xC0) <|
  xAR (ok_ireturn (xdd xB_250 dX11_mark_17) rfl) <|
  xA0 (ok_aload_n (xdd xB_250 dX11_mark_18) rfl rfl) <|
  xA1 (ok_getI (xdd xB_250 dX11_mark_19) rfl (lk_f q1422) (by decide)) <|
  xA0 (ok_iconst (xdd xB_250 dX11_mark_22) rfl rfl (xrg rfl)) <|
  xAB (ok_icmp_ne (xdd xB_250 dX11_mark_23) rfl rfl) <|
  xA0 (ok_aload_n (xdd xB_250 dX11_mark_26) rfl rfl) <|
  xA0 (ok_iconst (xdd xB_250 dX11_mark_27) rfl rfl (xrg rfl)) <|
  xAK rfl (xC1 (ok_callV (xdd xB_250 dX11_mark_28) rfl xq_9 rfl xp_142_1 q1533 q1535 qs49 q124 q1536) xC0) <|
  xAR (ok_ireturn (xdd xB_250 dX11_mark_31) rfl) <|
  xAe
theorem xe_250_1 {s0 : State} {A0 : Array Value} {D : va_G} {ta : Nat → ClassId} {l : Launch} : XAll s0 A0 D ta l 250 xk_250_1 :=
  xA0 (ok_iconst (xdd xB_250 dX11_mark_32) rfl rfl (xrg rfl)) <|
  xA0 (ok_istore_n (xdd xB_250 dX11_mark_33) rfl rfl) <|
  xA0 (ok_iload_n (xdd xB_250 dX11_mark_34) rfl rfl) <|
  xA0 (ok_bipush (xdd xB_250 dX11_mark_35) rfl rfl (xrg rfl)) <|
  xAB (ok_icmp_ge (xdd xB_250 dX11_mark_37) rfl rfl) <|
  xA0 (ok_aload_n (xdd xB_250 dX11_mark_40) rfl rfl) <|
  xA1 (ok_getA (xdd xB_250 dX11_mark_41) rfl (lk_f q1420) rfl) <|
  xA0 (ok_bipush (xdd xB_250 dX11_mark_44) rfl rfl (xrg rfl)) <|
  xA0 (ok_aload_n (xdd xB_250 dX11_mark_46) rfl rfl) <|
  xA1 (ok_getI (xdd xB_250 dX11_mark_47) rfl (lk_f q1422) (by decide)) <|
  xA1 (ok_imul (xdd xB_250 dX11_mark_50) rfl) <|
  xA0 (ok_iload_n (xdd xB_250 dX11_mark_51) rfl rfl) <|
  xA1 (ok_iadd (xdd xB_250 dX11_mark_52) rfl) <|
  xA0 (ok_aload_n (xdd xB_250 dX11_mark_53) rfl rfl) <|
  xA1 (ok_getA (xdd xB_250 dX11_mark_54) rfl (lk_f q1418) rfl) <|
  xA0 (ok_iload_n (xdd xB_250 dX11_mark_57) rfl rfl) <|
  xA1 (ok_iaload (xdd xB_250 dX11_mark_58) rfl) <|
  xA1 (ok_iastore (xdd xB_250 dX11_mark_59) rfl) <|
  xA1 (ok_iinc (xdd xB_250 dX11_mark_60) rfl) <|
  xA0 (ok_goto (xdd xB_250 dX11_mark_63) rfl) <|
  xAe
theorem xe_250_2 {s0 : State} {A0 : Array Value} {D : va_G} {ta : Nat → ClassId} {l : Launch} : XAll s0 A0 D ta l 250 xk_250_2 :=
  xA0 (ok_aload_n (xdd xB_250 dX11_mark_66) rfl rfl) <|
  xA0 (ok_dup (xdd xB_250 dX11_mark_67) rfl) <|
  xA1 (ok_getI (xdd xB_250 dX11_mark_68) rfl (lk_f q1422) (by decide)) <|
  xA0 (ok_iconst (xdd xB_250 dX11_mark_71) rfl rfl (xrg rfl)) <|
  xA1 (ok_iadd (xdd xB_250 dX11_mark_72) rfl) <|
  xA1 (ok_putI (xdd xB_250 dX11_mark_73) rfl (lk_f q1422) rfl xfd_85 (Or.inl rfl)) <|
  xA0 (ok_aload_n (xdd xB_250 dX11_mark_76) rfl rfl) <|
  xA0 (ok_aload_n (xdd xB_250 dX11_mark_77) rfl rfl) <|
  xA1 (ok_getI (xdd xB_250 dX11_mark_78) rfl (lk_f q1422) (by decide)) <|
  xA0 (ok_iconst (xdd xB_250 dX11_mark_81) rfl rfl (xrg rfl)) <|
  xA1 (ok_isub (xdd xB_250 dX11_mark_82) rfl) <|
  xAK rfl (xC1 (ok_callV (xdd xB_250 dX11_mark_83) rfl xq_9 rfl xp_174_1 q1829 q1831 qs77 q124 q1832) xC0) <|
  xAR (ok_ireturn (xdd xB_250 dX11_mark_86) rfl) <|
  xAe
theorem xe_250 {s0 : State} {A0 : Array Value} {D : va_G} {ta : Nat → ClassId} {l : Launch} : XAllC s0 A0 D ta l 250 xk_250 := ⟨xe_250_0, xe_250_1, xe_250_2, trivial⟩
theorem xe_251_0 {s0 : State} {A0 : Array Value} {D : va_G} {ta : Nat → ClassId} {l : Launch} : XAll s0 A0 D ta l 251 xk_251_0 :=
  xA0 (ok_aload_n (xdd xB_251 dX11_back_0) rfl rfl) <|
  xA0 (ok_iconst (xdd xB_251 dX11_back_1) rfl rfl (xrg rfl)) <|
  xA1 (ok_putI (xdd xB_251 dX11_back_2) rfl (lk_f q1403) rfl xfd_66 (Or.inl rfl)) <|
  xA0 (ok_aload_n (xdd xB_251 dX11_back_5) rfl rfl) <|
  xA1 (ok_getA (xdd xB_251 dX11_back_6) rfl (lk_f q1406) rfl) <|
  xAB (ok_ifnull (xdd xB_251 dX11_back_9) rfl rfl) <|
  xA0 (ok_iload_n (xdd xB_251 dX11_back_12) rfl rfl) <|
  xAB (ok_if_lt (xdd xB_251 dX11_back_13) rfl rfl) <|
  xA0 (ok_iload_n (xdd xB_251 dX11_back_16) rfl rfl) <|
  xA0 (ok_aload_n (xdd xB_251 dX11_back_17) rfl rfl) <|
  xA1 (ok_getI (xdd xB_251 dX11_back_18) rfl (lk_f q1422) (by decide)) <|
  xAB (ok_icmp_lt (xdd xB_251 dX11_back_21) rfl rfl) <|
  xA0 (ok_aload_n (xdd xB_251 dX11_back_24) rfl rfl) <|
  xA0 (ok_iconst (xdd xB_251 dX11_back_25) rfl rfl (xrg rfl)) <|
  xAK rfl (xC1 (ok_callV (xdd xB_251 dX11_back_26) rfl xq_9 rfl xp_243_1 q2114 q2116 qs106 q124 q2117) xC0) <|
  xAR (ok_zreturn (xdd xB_251 dX11_back_29) rfl) <|
  xA0 (ok_iconst (xdd xB_251 dX11_back_30) rfl rfl (xrg rfl)) <|
  xA0 (ok_istore_n (xdd xB_251 dX11_back_31) rfl rfl) <|
  xAe
theorem xe_251_1 {s0 : State} {A0 : Array Value} {D : va_G} {ta : Nat → ClassId} {l : Launch} : XAll s0 A0 D ta l 251 xk_251_1 :=
  xA0 (ok_iload_n (xdd xB_251 dX11_back_32) rfl rfl) <|
  xA0 (ok_bipush (xdd xB_251 dX11_back_33) rfl rfl (xrg rfl)) <|
  xAB (ok_icmp_ge (xdd xB_251 dX11_back_35) rfl rfl) <|
  xA0 (ok_aload_n (xdd xB_251 dX11_back_38) rfl rfl) <|
  xA1 (ok_getA (xdd xB_251 dX11_back_39) rfl (lk_f q1418) rfl) <|
  xA0 (ok_iload_n (xdd xB_251 dX11_back_42) rfl rfl) <|
  xA0 (ok_aload_n (xdd xB_251 dX11_back_43) rfl rfl) <|
  xA1 (ok_getA (xdd xB_251 dX11_back_44) rfl (lk_f q1420) rfl) <|
  xA0 (ok_bipush (xdd xB_251 dX11_back_47) rfl rfl (xrg rfl)) <|
  xA0 (ok_iload_n (xdd xB_251 dX11_back_49) rfl rfl) <|
  xA1 (ok_imul (xdd xB_251 dX11_back_50) rfl) <|
  xA0 (ok_iload_n (xdd xB_251 dX11_back_51) rfl rfl) <|
  xA1 (ok_iadd (xdd xB_251 dX11_back_52) rfl) <|
  xA1 (ok_iaload (xdd xB_251 dX11_back_53) rfl) <|
  xA1 (ok_iastore (xdd xB_251 dX11_back_54) rfl) <|
  xA1 (ok_iinc (xdd xB_251 dX11_back_55) rfl) <|
  xA0 (ok_goto (xdd xB_251 dX11_back_58) rfl) <|
  xA0 (ok_aload_n (xdd xB_251 dX11_back_61) rfl rfl) <|
  xA0 (ok_iconst (xdd xB_251 dX11_back_62) rfl rfl (xrg rfl)) <|
  xA1 (ok_putI (xdd xB_251 dX11_back_63) rfl (lk_f q1421) rfl xfd_84 (Or.inl rfl)) <|
  xAe
theorem xe_251_2 {s0 : State} {A0 : Array Value} {D : va_G} {ta : Nat → ClassId} {l : Launch} : XAll s0 A0 D ta l 251 xk_251_2 :=
  xA0 (ok_aload_n (xdd xB_251 dX11_back_66) rfl rfl) <|
  xAK rfl (xC1 (ok_callV (xdd xB_251 dX11_back_67) rfl xq_9 rfl xp_245_0 q2122 q2124 qs108 q124 q2125) xC0) <|
  xAR (ok_zreturn (xdd xB_251 dX11_back_70) rfl) <|
  xAe
theorem xe_251 {s0 : State} {A0 : Array Value} {D : va_G} {ta : Nat → ClassId} {l : Launch} : XAllC s0 A0 D ta l 251 xk_251 := ⟨xe_251_0, xe_251_1, xe_251_2, trivial⟩
theorem xe_252_0 {s0 : State} {A0 : Array Value} {D : va_G} {ta : Nat → ClassId} {l : Launch} : XAll s0 A0 D ta l 252 xk_252_0 :=
  xA0 (ok_aload_n (xdd xB_252 dX11_led_0) rfl rfl) <|
  xA0 (ok_iconst (xdd xB_252 dX11_led_1) rfl rfl (xrg rfl)) <|
  xA1 (ok_putI (xdd xB_252 dX11_led_2) rfl (lk_f q1403) rfl xfd_66 (Or.inl rfl)) <|
  xA0 (ok_iconst (xdd xB_252 dX11_led_5) rfl rfl (xrg rfl)) <|
  xA0 (ok_istore_n (xdd xB_252 dX11_led_6) rfl rfl) <|
  xA0 (ok_iconst (xdd xB_252 dX11_led_7) rfl rfl (xrg rfl)) <|
  xA0 (ok_istore_n (xdd xB_252 dX11_led_8) rfl rfl) <|
  xA0 (ok_aload_n (xdd xB_252 dX11_led_9) rfl rfl) <|
  xA1 (ok_getA (xdd xB_252 dX11_led_10) rfl (lk_f q1406) rfl) <|
  xAB (ok_ifnull (xdd xB_252 dX11_led_13) rfl rfl) <|
  xA0 (ok_iload_n (xdd xB_252 dX11_led_16) rfl rfl) <|
  xA0 (ok_aload_n (xdd xB_252 dX11_led_17) rfl rfl) <|
  xA1 (ok_getA (xdd xB_252 dX11_led_18) rfl (lk_f q1406) rfl) <|
  xA1 (ok_getI (xdd xB_252 dX11_led_21) rfl (lk_n q1550) (by decide)) <|
  xAB (ok_icmp_ge (xdd xB_252 dX11_led_24) rfl rfl) <|
  xA0 (ok_aload_n (xdd xB_252 dX11_led_27) rfl rfl) <|
  xA1 (ok_getA (xdd xB_252 dX11_led_28) rfl (lk_f q1418) rfl) <|
  xA0 (ok_bipush (xdd xB_252 dX11_led_31) rfl rfl (xrg rfl)) <|
  xAe
theorem xe_252_1 {s0 : State} {A0 : Array Value} {D : va_G} {ta : Nat → ClassId} {l : Launch} : XAll s0 A0 D ta l 252 xk_252_1 :=
  xA0 (ok_iload_n (xdd xB_252 dX11_led_33) rfl rfl) <|
  xA1 (ok_iadd (xdd xB_252 dX11_led_34) rfl) <|
  xA1 (ok_iaload (xdd xB_252 dX11_led_35) rfl) <|
  xA0 (ok_aload_n (xdd xB_252 dX11_led_36) rfl rfl) <|
  xA1 (ok_getA (xdd xB_252 dX11_led_37) rfl (lk_f q1406) rfl) <|
  xA1 (ok_getA (xdd xB_252 dX11_led_40) rfl (lk_n q1574) rfl) <|
  xA0 (ok_iload_n (xdd xB_252 dX11_led_43) rfl rfl) <|
  xA1 (ok_iaload (xdd xB_252 dX11_led_44) rfl) <|
  xAB (ok_icmp_eq (xdd xB_252 dX11_led_45) rfl rfl) <|
  xA0 (ok_goto (xdd xB_252 dX11_led_48) rfl) <|
  xA0 (ok_iload_n (xdd xB_252 dX11_led_51) rfl rfl) <|
  xA0 (ok_iload_n (xdd xB_252 dX11_led_52) rfl rfl) <|
  xAB (ok_icmp_ne (xdd xB_252 dX11_led_53) rfl rfl) <|
  xA0 (ok_iload_n (xdd xB_252 dX11_led_56) rfl rfl) <|
  xAR (ok_ireturn (xdd xB_252 dX11_led_57) rfl) <|
  xA1 (ok_iinc (xdd xB_252 dX11_led_58) rfl) <|
  xA1 (ok_iinc (xdd xB_252 dX11_led_61) rfl) <|
  xAe
theorem xe_252_2 {s0 : State} {A0 : Array Value} {D : va_G} {ta : Nat → ClassId} {l : Launch} : XAll s0 A0 D ta l 252 xk_252_2 :=
  xA0 (ok_goto (xdd xB_252 dX11_led_64) rfl) <|
  xA0 (ok_aload_n (xdd xB_252 dX11_led_67) rfl rfl) <|
  xA0 (ok_iconst (xdd xB_252 dX11_led_68) rfl rfl (xrg rfl)) <|
  xA1 (ok_putI (xdd xB_252 dX11_led_69) rfl (lk_f q1403) rfl xfd_66 (Or.inl rfl)) <|
  xA0 (ok_iconst (xdd xB_252 dX11_led_72) rfl rfl (xrg rfl)) <|
  xAR (ok_ireturn (xdd xB_252 dX11_led_73) rfl) <|
  xAe
theorem xe_252 {s0 : State} {A0 : Array Value} {D : va_G} {ta : Nat → ClassId} {l : Launch} : XAllC s0 A0 D ta l 252 xk_252 := ⟨xe_252_0, xe_252_1, xe_252_2, trivial⟩
theorem xe_253_0 {s0 : State} {A0 : Array Value} {D : va_G} {ta : Nat → ClassId} {l : Launch} : XAll s0 A0 D ta l 253 xk_253_0 :=
  xA0 (ok_aload_n (xdd xB_253 dX11_size_0) rfl rfl) <|
  xA0 (ok_iconst (xdd xB_253 dX11_size_1) rfl rfl (xrg rfl)) <|
  xA1 (ok_putI (xdd xB_253 dX11_size_2) rfl (lk_f q1403) rfl xfd_66 (Or.inl rfl)) <|
  xA0 (ok_iload_n (xdd xB_253 dX11_size_5) rfl rfl) <|
  xA0 (ok_bipush (xdd xB_253 dX11_size_6) rfl rfl (xrg rfl)) <|
  xAB (ok_icmp_ne (xdd xB_253 dX11_size_8) rfl rfl) <|
  xA0 (ok_aload_n (xdd xB_253 dX11_size_11) rfl rfl) <|
  xA1 (ok_getI (xdd xB_253 dX11_size_12) rfl (lk_f q1409) (by decide)) <|
  xAR (ok_ireturn (xdd xB_253 dX11_size_15) rfl) <|
  xA0 (ok_iload_n (xdd xB_253 dX11_size_16) rfl rfl) <|
  xA0 (ok_iconst (xdd xB_253 dX11_size_17) rfl rfl (xrg rfl)) <|
  xA0 (ok_bipush (xdd xB_253 dX11_size_18) rfl rfl (xrg rfl)) <|
  xAK rfl (xC1 (ok_callS (xdd xB_253 dX11_size_20) rfl xp_156_3 q1727 q1728 q124 q1729) xC0) <|
  xAB (ok_if_ne (xdd xB_253 dX11_size_23) rfl rfl) <|
  xA0 (ok_iconst (xdd xB_253 dX11_size_26) rfl rfl (xrg rfl)) <|
  xAR (ok_ireturn (xdd xB_253 dX11_size_27) rfl) <|
  xA0 (ok_aload_n (xdd xB_253 dX11_size_28) rfl rfl) <|
  xA1 (ok_getA (xdd xB_253 dX11_size_29) rfl (lk_f q1406) rfl) <|
  xAe
theorem xe_253_1 {s0 : State} {A0 : Array Value} {D : va_G} {ta : Nat → ClassId} {l : Launch} : XAll s0 A0 D ta l 253 xk_253_1 :=
  xAB (ok_ifnonnull (xdd xB_253 dX11_size_32) rfl rfl) <|
  xA0 (ok_iconst (xdd xB_253 dX11_size_35) rfl rfl (xrg rfl)) <|
  xAR (ok_ireturn (xdd xB_253 dX11_size_36) rfl) <|
  xA0 (ok_iload_n (xdd xB_253 dX11_size_37) rfl rfl) <|
  xA0 (ok_tsw (xdd xB_253 dX11_size_38) rfl rfl rfl rfl (np := 0)) <|
  xAe
theorem xe_253_2 {s0 : State} {A0 : Array Value} {D : va_G} {ta : Nat → ClassId} {l : Launch} : XAll s0 A0 D ta l 253 xk_253_2 :=
  xAe
theorem xe_253_3 {s0 : State} {A0 : Array Value} {D : va_G} {ta : Nat → ClassId} {l : Launch} : XAll s0 A0 D ta l 253 xk_253_3 :=
  xA0 (ok_aload_n (xdd xB_253 dX11_size_96) rfl rfl) <|
  xA1 (ok_getA (xdd xB_253 dX11_size_97) rfl (lk_f q1406) rfl) <|
  xA1 (ok_getI (xdd xB_253 dX11_size_100) rfl (lk_n q1543) (by decide)) <|
  xAR (ok_ireturn (xdd xB_253 dX11_size_103) rfl) <|
  xA0 (ok_aload_n (xdd xB_253 dX11_size_104) rfl rfl) <|
  xA1 (ok_getA (xdd xB_253 dX11_size_105) rfl (lk_f q1406) rfl) <|
  xA1 (ok_getI (xdd xB_253 dX11_size_108) rfl (lk_n q1544) (by decide)) <|
  xAR (ok_ireturn (xdd xB_253 dX11_size_111) rfl) <|
  xA0 (ok_aload_n (xdd xB_253 dX11_size_112) rfl rfl) <|
  xA1 (ok_getA (xdd xB_253 dX11_size_113) rfl (lk_f q1406) rfl) <|
  xA1 (ok_getI (xdd xB_253 dX11_size_116) rfl (lk_n q1546) (by decide)) <|
  xAR (ok_ireturn (xdd xB_253 dX11_size_119) rfl) <|
  xA0 (ok_aload_n (xdd xB_253 dX11_size_120) rfl rfl) <|
  xAK rfl (xC1 (ok_callV (xdd xB_253 dX11_size_121) rfl xq_9 rfl xp_254_0 q2158 q2160 qs109 q124 q2161) xC0) <|
  xAR (ok_ireturn (xdd xB_253 dX11_size_124) rfl) <|
  xA0 (ok_aload_n (xdd xB_253 dX11_size_125) rfl rfl) <|
  xA1 (ok_getA (xdd xB_253 dX11_size_126) rfl (lk_f q1406) rfl) <|
  xAe
theorem xe_253_4 {s0 : State} {A0 : Array Value} {D : va_G} {ta : Nat → ClassId} {l : Launch} : XAll s0 A0 D ta l 253 xk_253_4 :=
  xA1 (ok_getI (xdd xB_253 dX11_size_129) rfl (lk_n q1548) (by decide)) <|
  xAR (ok_ireturn (xdd xB_253 dX11_size_132) rfl) <|
  xA0 (ok_aload_n (xdd xB_253 dX11_size_133) rfl rfl) <|
  xA1 (ok_getA (xdd xB_253 dX11_size_134) rfl (lk_f q1406) rfl) <|
  xA1 (ok_getI (xdd xB_253 dX11_size_137) rfl (lk_n q1549) (by decide)) <|
  xAR (ok_ireturn (xdd xB_253 dX11_size_140) rfl) <|
  xA0 (ok_aload_n (xdd xB_253 dX11_size_141) rfl rfl) <|
  xA1 (ok_getA (xdd xB_253 dX11_size_142) rfl (lk_f q1406) rfl) <|
  xA1 (ok_getI (xdd xB_253 dX11_size_145) rfl (lk_n q1550) (by decide)) <|
  xAR (ok_ireturn (xdd xB_253 dX11_size_148) rfl) <|
  xA0 (ok_aload_n (xdd xB_253 dX11_size_149) rfl rfl) <|
  xA1 (ok_getA (xdd xB_253 dX11_size_150) rfl (lk_f q1406) rfl) <|
  xA1 (ok_getI (xdd xB_253 dX11_size_153) rfl (lk_n q1552) (by decide)) <|
  xAR (ok_ireturn (xdd xB_253 dX11_size_156) rfl) <|
  xA0 (ok_aload_n (xdd xB_253 dX11_size_157) rfl rfl) <|
  xA1 (ok_getA (xdd xB_253 dX11_size_158) rfl (lk_f q1406) rfl) <|
  xAe
theorem xe_253_5 {s0 : State} {A0 : Array Value} {D : va_G} {ta : Nat → ClassId} {l : Launch} : XAll s0 A0 D ta l 253 xk_253_5 :=
  xA1 (ok_getI (xdd xB_253 dX11_size_161) rfl (lk_n q1554) (by decide)) <|
  xAR (ok_ireturn (xdd xB_253 dX11_size_164) rfl) <|
  xA0 (ok_aload_n (xdd xB_253 dX11_size_165) rfl rfl) <|
  xA1 (ok_getA (xdd xB_253 dX11_size_166) rfl (lk_f q1418) rfl) <|
  xA0 (ok_bipush (xdd xB_253 dX11_size_169) rfl rfl (xrg rfl)) <|
  xA1 (ok_iaload (xdd xB_253 dX11_size_171) rfl) <|
  xAK rfl (xC1 (ok_callS (xdd xB_253 dX11_size_172) rfl xp_226_1 q2043 q2044 q124 q2045) xC0) <|
  xAR (ok_ireturn (xdd xB_253 dX11_size_175) rfl) <|
  xA0 (ok_aload_n (xdd xB_253 dX11_size_176) rfl rfl) <|
  xA1 (ok_getI (xdd xB_253 dX11_size_177) rfl (lk_f q1421) (by decide)) <|
  xAR (ok_ireturn (xdd xB_253 dX11_size_180) rfl) <|
  xA0 (ok_aload_n (xdd xB_253 dX11_size_181) rfl rfl) <|
  xA1 (ok_getI (xdd xB_253 dX11_size_182) rfl (lk_f q1422) (by decide)) <|
  xAR (ok_ireturn (xdd xB_253 dX11_size_185) rfl) <|
  xAe
theorem xe_253 {s0 : State} {A0 : Array Value} {D : va_G} {ta : Nat → ClassId} {l : Launch} : XAllC s0 A0 D ta l 253 xk_253 := ⟨xe_253_0, xe_253_1, xe_253_2, xe_253_3, xe_253_4, xe_253_5, trivial⟩
theorem xe_254_0 {s0 : State} {A0 : Array Value} {D : va_G} {ta : Nat → ClassId} {l : Launch} : XAll s0 A0 D ta l 254 xk_254_0 :=
  xA0 (ok_iconst (xdd xB_254 dX11_known_0) rfl rfl (xrg rfl)) <|
  xA0 (ok_istore_n (xdd xB_254 dX11_known_1) rfl rfl) <|
  xA0 (ok_iconst (xdd xB_254 dX11_known_2) rfl rfl (xrg rfl)) <|
  xA0 (ok_istore_n (xdd xB_254 dX11_known_3) rfl rfl) <|
  xA0 (ok_iload_n (xdd xB_254 dX11_known_4) rfl rfl) <|
  xA0 (ok_aload_n (xdd xB_254 dX11_known_5) rfl rfl) <|
  xA1 (ok_getA (xdd xB_254 dX11_known_6) rfl (lk_f q1406) rfl) <|
  xA1 (ok_getI (xdd xB_254 dX11_known_9) rfl (lk_n q1546) (by decide)) <|
  xAB (ok_icmp_ge (xdd xB_254 dX11_known_12) rfl rfl) <|
  xA0 (ok_iload_n (xdd xB_254 dX11_known_15) rfl rfl) <|
  xA0 (ok_aload_n (xdd xB_254 dX11_known_16) rfl rfl) <|
  xA1 (ok_getA (xdd xB_254 dX11_known_17) rfl (lk_f q1418) rfl) <|
  xA0 (ok_iconst (xdd xB_254 dX11_known_20) rfl rfl (xrg rfl)) <|
  xA0 (ok_iload_n (xdd xB_254 dX11_known_21) rfl rfl) <|
  xA1 (ok_iadd (xdd xB_254 dX11_known_22) rfl) <|
  xA1 (ok_iaload (xdd xB_254 dX11_known_23) rfl) <|
  xA0 (ok_bipush (xdd xB_254 dX11_known_24) rfl rfl (xrg rfl)) <|
  xAB (ok_icmp_ne (xdd xB_254 dX11_known_26) rfl rfl) <|
  xA0 (ok_iconst (xdd xB_254 dX11_known_29) rfl rfl (xrg rfl)) <|
  xA0 (ok_goto (xdd xB_254 dX11_known_30) rfl) <|
  xAe
theorem xe_254_1 {s0 : State} {A0 : Array Value} {D : va_G} {ta : Nat → ClassId} {l : Launch} : XAll s0 A0 D ta l 254 xk_254_1 :=
  xA0 (ok_iconst (xdd xB_254 dX11_known_33) rfl rfl (xrg rfl)) <|
  xA1 (ok_iadd (xdd xB_254 dX11_known_34) rfl) <|
  xA0 (ok_istore_n (xdd xB_254 dX11_known_35) rfl rfl) <|
  xA1 (ok_iinc (xdd xB_254 dX11_known_36) rfl) <|
  xA0 (ok_goto (xdd xB_254 dX11_known_39) rfl) <|
  xA0 (ok_iload_n (xdd xB_254 dX11_known_42) rfl rfl) <|
  xAR (ok_ireturn (xdd xB_254 dX11_known_43) rfl) <|
  xAe
theorem xe_254 {s0 : State} {A0 : Array Value} {D : va_G} {ta : Nat → ClassId} {l : Launch} : XAllC s0 A0 D ta l 254 xk_254 := ⟨xe_254_0, xe_254_1, trivial⟩
theorem xe_255_0 {s0 : State} {A0 : Array Value} {D : va_G} {ta : Nat → ClassId} {l : Launch} : XAll s0 A0 D ta l 255 xk_255_0 :=
  xA0 (ok_aload_n (xdd xB_255 dX11_trouble_0) rfl rfl) <|
  xA0 (ok_iconst (xdd xB_255 dX11_trouble_1) rfl rfl (xrg rfl)) <|
  xA1 (ok_putI (xdd xB_255 dX11_trouble_2) rfl (lk_f q1403) rfl xfd_66 (Or.inl rfl)) <|
  xA0 (ok_aload_n (xdd xB_255 dX11_trouble_5) rfl rfl) <|
  xA1 (ok_getI (xdd xB_255 dX11_trouble_6) rfl (lk_f q1404) (by decide)) <|
  xAR (ok_ireturn (xdd xB_255 dX11_trouble_9) rfl) <|
  xAe
theorem xe_255 {s0 : State} {A0 : Array Value} {D : va_G} {ta : Nat → ClassId} {l : Launch} : XAllC s0 A0 D ta l 255 xk_255 := ⟨xe_255_0, trivial⟩
theorem xe_256_0 {s0 : State} {A0 : Array Value} {D : va_G} {ta : Nat → ClassId} {l : Launch} : XAll s0 A0 D ta l 256 xk_256_0 :=
  xA0 (ok_aload_n (xdd xB_256 dX12_init_0) rfl rfl) <|
  xA1 (ok_obj (xdd xB_256 dX12_init_1) rfl q497 q147 q148) <|
  xA0 (ok_aload_n (xdd xB_256 dX12_init_4) rfl rfl) <|
  xA0 (ok_bipush (xdd xB_256 dX12_init_5) rfl rfl (xrg rfl)) <|
  xA1 (ok_anew_House (xdd xB_256 dX12_init_7) rfl q498) <|
  xA1 (ok_putA (xdd xB_256 dX12_init_10) rfl (lk_f q504) rfl xfd_105 (Or.inr ⟨_, rfl⟩) (Or.inr ⟨rfl, rfl, rfl⟩)) <|
  xA0 (ok_aload_n (xdd xB_256 dX12_init_13) rfl rfl) <|
  xA0 (ok_iconst (xdd xB_256 dX12_init_14) rfl rfl (xrg rfl)) <|
  xA1 (ok_anew_Person (xdd xB_256 dX12_init_15) rfl q500) <|
  xA1 (ok_putA (xdd xB_256 dX12_init_18) rfl (lk_f q508) rfl xfd_106 (Or.inr ⟨_, rfl⟩) (Or.inr ⟨rfl, rfl, rfl⟩)) <|
  xA0 (ok_aload_n (xdd xB_256 dX12_init_21) rfl rfl) <|
  xA0 (ok_bipush (xdd xB_256 dX12_init_22) rfl rfl (xrg rfl)) <|
  xA1 (ok_anew_Notice (xdd xB_256 dX12_init_24) rfl q502) <|
  xA1 (ok_putA (xdd xB_256 dX12_init_27) rfl (lk_f q512) rfl xfd_107 (Or.inr ⟨_, rfl⟩) (Or.inr ⟨rfl, rfl, rfl⟩)) <|
  xA0 (ok_aload_n (xdd xB_256 dX12_init_30) rfl rfl) <|
  xA0 (ok_bipush (xdd xB_256 dX12_init_31) rfl rfl (xrg rfl)) <|
  xAe
theorem xe_256_1 {s0 : State} {A0 : Array Value} {D : va_G} {ta : Nat → ClassId} {l : Launch} : XAll s0 A0 D ta l 256 xk_256_1 :=
  xA1 (ok_new_int (xdd xB_256 dX12_init_33) rfl) <|
  xA1 (ok_putA (xdd xB_256 dX12_init_35) rfl (lk_f q515) rfl xfd_108 (Or.inr ⟨_, rfl⟩) (Or.inr ⟨rfl, rfl, rfl⟩)) <|
  xAR (ok_vreturn (xdd xB_256 dX12_init_38) rfl) <|
  xAe
theorem xe_256 {s0 : State} {A0 : Array Value} {D : va_G} {ta : Nat → ClassId} {l : Launch} : XAllC s0 A0 D ta l 256 xk_256 := ⟨xe_256_0, xe_256_1, trivial⟩
theorem xe_257_0 {s0 : State} {A0 : Array Value} {D : va_G} {ta : Nat → ClassId} {l : Launch} : XAll s0 A0 D ta l 257 xk_257_0 :=
  xA0 (ok_iconst (xdd xB_257 dX12_find_0) rfl rfl (xrg rfl)) <|
  xA0 (ok_istore_n (xdd xB_257 dX12_find_1) rfl rfl) <|
  xA0 (ok_iload_n (xdd xB_257 dX12_find_2) rfl rfl) <|
  xA0 (ok_aload_n (xdd xB_257 dX12_find_3) rfl rfl) <|
  xA1 (ok_getI (xdd xB_257 dX12_find_4) rfl (lk_f q523) (by decide)) <|
  xAB (ok_icmp_ge (xdd xB_257 dX12_find_7) rfl rfl) <|
  xA0 (ok_aload_n (xdd xB_257 dX12_find_10) rfl rfl) <|
  xA1 (ok_getA (xdd xB_257 dX12_find_11) rfl (lk_f q504) rfl) <|
  xA0 (ok_iload_n (xdd xB_257 dX12_find_14) rfl rfl) <|
  xA1 (ok_aaload (xdd xB_257 dX12_find_15) rfl) <|
  xA1 (ok_getA (xdd xB_257 dX12_find_16) rfl (lk_s q815 q816) rfl) <|
  xA0 (ok_aload_n (xdd xB_257 dX12_find_19) rfl rfl) <|
  xAK rfl (xC1 (ok_callV (xdd xB_257 dX12_find_20) rfl xq_16 rfl xp_267_1 q788 q730 q731 q126 q732) xC0) <|
  xAB (ok_if_eq (xdd xB_257 dX12_find_23) rfl rfl) <|
  xA0 (ok_aload_n (xdd xB_257 dX12_find_26) rfl rfl) <|
  xA1 (ok_getA (xdd xB_257 dX12_find_27) rfl (lk_f q504) rfl) <|
  xA0 (ok_iload_n (xdd xB_257 dX12_find_30) rfl rfl) <|
  xA1 (ok_aaload (xdd xB_257 dX12_find_31) rfl) <|
  xAe
theorem xe_257_1 {s0 : State} {A0 : Array Value} {D : va_G} {ta : Nat → ClassId} {l : Launch} : XAll s0 A0 D ta l 257 xk_257_1 :=
  xAR (ok_areturn (xdd xB_257 dX12_find_32) rfl (Or.inl ⟨_, rfl⟩)) <|
  xA1 (ok_iinc (xdd xB_257 dX12_find_33) rfl) <|
  xA0 (ok_goto (xdd xB_257 dX12_find_36) rfl) <|
  xA0 (ok_iconst (xdd xB_257 dX12_find_39) rfl rfl (xrg rfl)) <|
  xA0 (ok_istore_n (xdd xB_257 dX12_find_40) rfl rfl) <|
  xA0 (ok_iload_n (xdd xB_257 dX12_find_41) rfl rfl) <|
  xA0 (ok_aload_n (xdd xB_257 dX12_find_42) rfl rfl) <|
  xA1 (ok_getI (xdd xB_257 dX12_find_43) rfl (lk_f q534) (by decide)) <|
  xAB (ok_icmp_ge (xdd xB_257 dX12_find_46) rfl rfl) <|
  xA0 (ok_aload_n (xdd xB_257 dX12_find_49) rfl rfl) <|
  xA1 (ok_getA (xdd xB_257 dX12_find_50) rfl (lk_f q508) rfl) <|
  xA0 (ok_iload_n (xdd xB_257 dX12_find_53) rfl rfl) <|
  xA1 (ok_aaload (xdd xB_257 dX12_find_54) rfl) <|
  xA1 (ok_getA (xdd xB_257 dX12_find_55) rfl (lk_s q817 q818) rfl) <|
  xA0 (ok_aload_n (xdd xB_257 dX12_find_58) rfl rfl) <|
  xAK rfl (xC1 (ok_callV (xdd xB_257 dX12_find_59) rfl xq_16 rfl xp_267_1 q788 q730 q731 q126 q732) xC0) <|
  xAB (ok_if_eq (xdd xB_257 dX12_find_62) rfl rfl) <|
  xAe
theorem xe_257_2 {s0 : State} {A0 : Array Value} {D : va_G} {ta : Nat → ClassId} {l : Launch} : XAll s0 A0 D ta l 257 xk_257_2 :=
  xA0 (ok_aload_n (xdd xB_257 dX12_find_65) rfl rfl) <|
  xA1 (ok_getA (xdd xB_257 dX12_find_66) rfl (lk_f q508) rfl) <|
  xA0 (ok_iload_n (xdd xB_257 dX12_find_69) rfl rfl) <|
  xA1 (ok_aaload (xdd xB_257 dX12_find_70) rfl) <|
  xAR (ok_areturn (xdd xB_257 dX12_find_71) rfl (Or.inl ⟨_, rfl⟩)) <|
  xA1 (ok_iinc (xdd xB_257 dX12_find_72) rfl) <|
  xA0 (ok_goto (xdd xB_257 dX12_find_75) rfl) <|
  xA0 (ok_null (xdd xB_257 dX12_find_78) rfl) <|
  xAR (ok_areturn (xdd xB_257 dX12_find_79) rfl (Or.inl ⟨_, rfl⟩)) <|
  xAe
theorem xe_257 {s0 : State} {A0 : Array Value} {D : va_G} {ta : Nat → ClassId} {l : Launch} : XAllC s0 A0 D ta l 257 xk_257 := ⟨xe_257_0, xe_257_1, xe_257_2, trivial⟩
theorem xe_258_0 {s0 : State} {A0 : Array Value} {D : va_G} {ta : Nat → ClassId} {l : Launch} : XAll s0 A0 D ta l 258 xk_258_0 :=
  xA0 (ok_aload_n (xdd xB_258 dX12_street_0) rfl rfl) <|
  xA1 (ok_getA (xdd xB_258 dX12_street_1) rfl (lk_f q515) rfl) <|
  xA0 (ok_bipush (xdd xB_258 dX12_street_4) rfl rfl (xrg rfl)) <|
  xA0 (ok_iload_n (xdd xB_258 dX12_street_6) rfl rfl) <|
  xA1 (ok_imul (xdd xB_258 dX12_street_7) rfl) <|
  xA0 (ok_iload_n (xdd xB_258 dX12_street_8) rfl rfl) <|
  xA1 (ok_iadd (xdd xB_258 dX12_street_9) rfl) <|
  xA1 (ok_iaload (xdd xB_258 dX12_street_10) rfl) <|
  xAR (ok_ireturn (xdd xB_258 dX12_street_11) rfl) <|
  xAe
theorem xe_258 {s0 : State} {A0 : Array Value} {D : va_G} {ta : Nat → ClassId} {l : Launch} : XAllC s0 A0 D ta l 258 xk_258 := ⟨xe_258_0, trivial⟩
theorem xe_259_0 {s0 : State} {A0 : Array Value} {D : va_G} {ta : Nat → ClassId} {l : Launch} : XAll s0 A0 D ta l 259 xk_259_0 :=
  xA0 (ok_aload_n (xdd xB_259 dX12_noticeMany_0) rfl rfl) <|
  xA1 (ok_getI (xdd xB_259 dX12_noticeMany_1) rfl (lk_f q538) (by decide)) <|
  xA0 (ok_aload_n (xdd xB_259 dX12_noticeMany_4) rfl rfl) <|
  xA1 (ok_getI (xdd xB_259 dX12_noticeMany_5) rfl (lk_f q541) (by decide)) <|
  xA1 (ok_iadd (xdd xB_259 dX12_noticeMany_8) rfl) <|
  xAR (ok_ireturn (xdd xB_259 dX12_noticeMany_9) rfl) <|
  xAe
theorem xe_259 {s0 : State} {A0 : Array Value} {D : va_G} {ta : Nat → ClassId} {l : Launch} : XAllC s0 A0 D ta l 259 xk_259 := ⟨xe_259_0, trivial⟩
theorem xe_260_0 {s0 : State} {A0 : Array Value} {D : va_G} {ta : Nat → ClassId} {l : Launch} : XAll s0 A0 D ta l 260 xk_260_0 :=
  xA0 (ok_iload_n (xdd xB_260 dX12_mayBe_0) rfl rfl) <|
  xA0 (ok_iload_n (xdd xB_260 dX12_mayBe_1) rfl rfl) <|
  xAB (ok_icmp_ne (xdd xB_260 dX12_mayBe_2) rfl rfl) <|
  xA0 (ok_iconst (xdd xB_260 dX12_mayBe_5) rfl rfl (xrg rfl)) <|
  xAR (ok_zreturn (xdd xB_260 dX12_mayBe_6) rfl) <|
  xA0 (ok_iconst (xdd xB_260 dX12_mayBe_7) rfl rfl (xrg rfl)) <|
  xA0 (ok_istore_n (xdd xB_260 dX12_mayBe_8) rfl rfl) <|
  xA0 (ok_iconst (xdd xB_260 dX12_mayBe_9) rfl rfl (xrg rfl)) <|
  xA0 (ok_istore (xdd xB_260 dX12_mayBe_10) rfl) <|
  xA0 (ok_iload (xdd xB_260 dX12_mayBe_12) rfl) <|
  xA0 (ok_aload_n (xdd xB_260 dX12_mayBe_14) rfl rfl) <|
  xAK rfl (xC1 (ok_callV (xdd xB_260 dX12_mayBe_15) rfl xq_10 rfl xp_259_0 q1139 q931 q932 q125 q933) xC0) <|
  xAB (ok_icmp_ge (xdd xB_260 dX12_mayBe_18) rfl rfl) <|
  xA0 (ok_iload_n (xdd xB_260 dX12_mayBe_21) rfl rfl) <|
  xAB (ok_if_eq (xdd xB_260 dX12_mayBe_22) rfl rfl) <|
  xA0 (ok_aload_n (xdd xB_260 dX12_mayBe_25) rfl rfl) <|
  xA1 (ok_getA (xdd xB_260 dX12_mayBe_26) rfl (lk_f q512) rfl) <|
  xA0 (ok_iload (xdd xB_260 dX12_mayBe_29) rfl) <|
  xA1 (ok_aaload (xdd xB_260 dX12_mayBe_31) rfl) <|
  xAe
theorem xe_260_1 {s0 : State} {A0 : Array Value} {D : va_G} {ta : Nat → ClassId} {l : Launch} : XAll s0 A0 D ta l 260 xk_260_1 :=
  xA1 (ok_getI (xdd xB_260 dX12_mayBe_32) rfl (lk_f q919) (by decide)) <|
  xA0 (ok_iload_n (xdd xB_260 dX12_mayBe_35) rfl rfl) <|
  xAB (ok_icmp_ne (xdd xB_260 dX12_mayBe_36) rfl rfl) <|
  xA0 (ok_aload_n (xdd xB_260 dX12_mayBe_39) rfl rfl) <|
  xA1 (ok_getA (xdd xB_260 dX12_mayBe_40) rfl (lk_f q512) rfl) <|
  xA0 (ok_iload (xdd xB_260 dX12_mayBe_43) rfl) <|
  xA1 (ok_aaload (xdd xB_260 dX12_mayBe_45) rfl) <|
  xA0 (ok_aload_n (xdd xB_260 dX12_mayBe_46) rfl rfl) <|
  xA1 (ok_getA (xdd xB_260 dX12_mayBe_47) rfl (lk_f q504) rfl) <|
  xA0 (ok_iload_n (xdd xB_260 dX12_mayBe_50) rfl rfl) <|
  xA1 (ok_aaload (xdd xB_260 dX12_mayBe_51) rfl) <|
  xAK rfl (xC1 (ok_callU (xdd xB_260 dX12_mayBe_52) rfl xq_13 ⟨by decide, by decide, by decide +kernel⟩ q1140 q1039 q1043 q1044 q135 q1045 q1038) (xC1 (ok_callU (xdd xB_260 dX12_mayBe_52) rfl xq_14 ⟨by decide, by decide, by decide +kernel⟩ q1140 q1039 q1040 q1041 q136 q1042 q1038) xC0)) <|
  xAB (ok_if_eq (xdd xB_260 dX12_mayBe_55) rfl rfl) <|
  xA0 (ok_iconst (xdd xB_260 dX12_mayBe_58) rfl rfl (xrg rfl)) <|
  xA0 (ok_goto (xdd xB_260 dX12_mayBe_59) rfl) <|
  xA0 (ok_iconst (xdd xB_260 dX12_mayBe_62) rfl rfl (xrg rfl)) <|
  xA0 (ok_istore_n (xdd xB_260 dX12_mayBe_63) rfl rfl) <|
  xAe
theorem xe_260_2 {s0 : State} {A0 : Array Value} {D : va_G} {ta : Nat → ClassId} {l : Launch} : XAll s0 A0 D ta l 260 xk_260_2 :=
  xA1 (ok_iinc (xdd xB_260 dX12_mayBe_64) rfl) <|
  xA0 (ok_goto (xdd xB_260 dX12_mayBe_67) rfl) <|
  xA0 (ok_iload_n (xdd xB_260 dX12_mayBe_70) rfl rfl) <|
  xAR (ok_zreturn (xdd xB_260 dX12_mayBe_71) rfl) <|
  xAe
theorem xe_260 {s0 : State} {A0 : Array Value} {D : va_G} {ta : Nat → ClassId} {l : Launch} : XAllC s0 A0 D ta l 260 xk_260 := ⟨xe_260_0, xe_260_1, xe_260_2, trivial⟩
theorem xe_261_0 {s0 : State} {A0 : Array Value} {D : va_G} {ta : Nat → ClassId} {l : Launch} : XAll s0 A0 D ta l 261 xk_261_0 :=
  xA0 (ok_aload_n (xdd xB_261 dJ3_init_0) rfl rfl) <|
  xA0 (ok_aload_n (xdd xB_261 dJ3_init_1) rfl rfl) <|
  xA0 (ok_iload_n (xdd xB_261 dJ3_init_2) rfl rfl) <|
  xA0 (ok_iload_n (xdd xB_261 dJ3_init_3) rfl rfl) <|
  xA0 (ok_aload_n (xdd xB_261 dJ3_init_4) rfl rfl) <|
  xA0 (ok_iload_n (xdd xB_261 dJ3_init_5) rfl rfl) <|
  xA0 (ok_iload_n (xdd xB_261 dJ3_init_6) rfl rfl) <|
  xAK rfl (xC1 (ok_callS (xdd xB_261 dJ3_init_7) rfl xp_262_3 q586 q587 q126 q588) xC0) <|
  xAK rfl (xC1 (ok_callI (xdd xB_261 dJ3_init_10) rfl xq_16 rfl rfl xp_264_4 q597 q598 q126 q599) xC0) <|
  xAR (ok_vreturn (xdd xB_261 dJ3_init_13) rfl) <|
  xAe
theorem xe_261 {s0 : State} {A0 : Array Value} {D : va_G} {ta : Nat → ClassId} {l : Launch} : XAllC s0 A0 D ta l 261 xk_261 := ⟨xe_261_0, trivial⟩
theorem xe_262_0 {s0 : State} {A0 : Array Value} {D : va_G} {ta : Nat → ClassId} {l : Launch} : XAll s0 A0 D ta l 262 xk_262_0 :=
  xA0 (ok_iload_n (xdd xB_262 dJ3_rangeCheck_0) rfl rfl) <|
  xA0 (ok_iload_n (xdd xB_262 dJ3_rangeCheck_1) rfl rfl) <|
  xA0 (ok_aload_n (xdd xB_262 dJ3_rangeCheck_2) rfl rfl) <|
  xA1 (ok_alen (xdd xB_262 dJ3_rangeCheck_3) rfl) <|
  xAK rfl (xC1 (ok_callS (xdd xB_262 dJ3_rangeCheck_4) rfl xp_263_3 q589 q590 q126 q591) xC0) <|
  xA0 (ok_pop (xdd xB_262 dJ3_rangeCheck_7) rfl) <|
  xA0 (ok_null (xdd xB_262 dJ3_rangeCheck_8) rfl) <|
  xAR (ok_areturn (xdd xB_262 dJ3_rangeCheck_9) rfl (Or.inl ⟨_, rfl⟩)) <|
  xAe
theorem xe_262 {s0 : State} {A0 : Array Value} {D : va_G} {ta : Nat → ClassId} {l : Launch} : XAllC s0 A0 D ta l 262 xk_262 := ⟨xe_262_0, trivial⟩
theorem xe_263_0 {s0 : State} {A0 : Array Value} {D : va_G} {ta : Nat → ClassId} {l : Launch} : XAll s0 A0 D ta l 263 xk_263_0 :=
  xA0 (ok_iload_n (xdd xB_263 dJ3_checkBoundsOffCount_0) rfl rfl) <|
  xA0 (ok_iload_n (xdd xB_263 dJ3_checkBoundsOffCount_1) rfl rfl) <|
  xA0 (ok_iload_n (xdd xB_263 dJ3_checkBoundsOffCount_2) rfl rfl) <|
  xA0 (ok_getsSF (xdd xB_263 dJ3_checkBoundsOffCount_3) rfl q592) <|
  xAK rfl (xC1 (ok_callS (xdd xB_263 dJ3_checkBoundsOffCount_6) rfl xp_272_4 q594 q595 q127 q596) xC0) <|
  xAR (ok_ireturn (xdd xB_263 dJ3_checkBoundsOffCount_9) rfl) <|
  xAe
theorem xe_263 {s0 : State} {A0 : Array Value} {D : va_G} {ta : Nat → ClassId} {l : Launch} : XAllC s0 A0 D ta l 263 xk_263 := ⟨xe_263_0, trivial⟩
theorem xe_264_0 {s0 : State} {A0 : Array Value} {D : va_G} {ta : Nat → ClassId} {l : Launch} : XAll s0 A0 D ta l 264 xk_264_0 :=
  xA0 (ok_aload_n (xdd xB_264 dJ3_init_2_0) rfl rfl) <|
  xA1 (ok_obj (xdd xB_264 dJ3_init_2_1) rfl q600 q147 q148) <|
  xA0 (ok_iload_n (xdd xB_264 dJ3_init_2_4) rfl rfl) <|
  xAB (ok_if_ne (xdd xB_264 dJ3_init_2_5) rfl rfl) <|
  xA0 (ok_aload_n (xdd xB_264 dJ3_init_2_8) rfl rfl) <|
  xA0 (ok_ldcS (xdd xB_264 dJ3_init_2_9) rfl rfl) <|
  xA1 (ok_getA (xdd xB_264 dJ3_init_2_11) rfl (lk_f q646) rfl) <|
  xA1 (ok_putA (xdd xB_264 dJ3_init_2_14) rfl (lk_f q646) rfl xfd_160 (Or.inr ⟨_, rfl⟩) (Or.inr ⟨rfl, rfl, rfl⟩)) <|
  xA0 (ok_aload_n (xdd xB_264 dJ3_init_2_17) rfl rfl) <|
  xA0 (ok_ldcS (xdd xB_264 dJ3_init_2_18) rfl rfl) <|
  xA1 (ok_getI (xdd xB_264 dJ3_init_2_20) rfl (lk_f q647) (by decide)) <|
  xA1 (ok_putB (xdd xB_264 dJ3_init_2_23) rfl (lk_f q647) rfl xfd_161 (Or.inr ⟨rfl, rfl, rfl⟩)) <|
  xAR (ok_vreturn (xdd xB_264 dJ3_init_2_26) rfl) <|
  xA0 (ok_getsCS (xdd xB_264 dJ3_init_2_27) rfl q602) <|
  xAB (ok_if_eq (xdd xB_264 dJ3_init_2_30) rfl rfl) <|
  xAe
theorem xe_264_1 {s0 : State} {A0 : Array Value} {D : va_G} {ta : Nat → ClassId} {l : Launch} : XAll s0 A0 D ta l 264 xk_264_1 :=
  xA0 (ok_aload_n (xdd xB_264 dJ3_init_2_33) rfl rfl) <|
  xA0 (ok_iload_n (xdd xB_264 dJ3_init_2_34) rfl rfl) <|
  xA0 (ok_iload_n (xdd xB_264 dJ3_init_2_35) rfl rfl) <|
  xAK rfl (xC1 (ok_callS (xdd xB_264 dJ3_init_2_36) rfl xp_274_3 q604 q605 q128 q606) xC0) <|
  xA0 (ok_astore (xdd xB_264 dJ3_init_2_39) rfl) <|
  xA0 (ok_aload_n (xdd xB_264 dJ3_init_2_41) rfl rfl) <|
  xA0 (ok_aload (xdd xB_264 dJ3_init_2_42) rfl) <|
  xA0 (ok_iload_n (xdd xB_264 dJ3_init_2_44) rfl rfl) <|
  xAK rfl (xC1 (ok_callS (xdd xB_264 dJ3_init_2_45) rfl xp_276_2 q642 q643 q128 q644) xC0) <|
  xA1 (ok_putB (xdd xB_264 dJ3_init_2_48) rfl (lk_f q647) rfl xfd_161 (Or.inr ⟨rfl, rfl, rfl⟩)) <|
  xA0 (ok_aload_n (xdd xB_264 dJ3_init_2_51) rfl rfl) <|
  xA0 (ok_aload (xdd xB_264 dJ3_init_2_52) rfl) <|
  xA1 (ok_putA (xdd xB_264 dJ3_init_2_54) rfl (lk_f q646) rfl xfd_160 (Or.inr ⟨_, rfl⟩) (Or.inr ⟨rfl, rfl, rfl⟩)) <|
  xAR (ok_vreturn (xdd xB_264 dJ3_init_2_57) rfl) <|
  xA0 (ok_aload_n (xdd xB_264 dJ3_init_2_58) rfl rfl) <|
  xA0 (ok_iconst (xdd xB_264 dJ3_init_2_59) rfl rfl (xrg rfl)) <|
  xA1 (ok_putB (xdd xB_264 dJ3_init_2_60) rfl (lk_f q647) rfl xfd_161 (Or.inr ⟨rfl, rfl, rfl⟩)) <|
  xA0 (ok_aload_n (xdd xB_264 dJ3_init_2_63) rfl rfl) <|
  xAe
theorem xe_264_2 {s0 : State} {A0 : Array Value} {D : va_G} {ta : Nat → ClassId} {l : Launch} : XAll s0 A0 D ta l 264 xk_264_2 :=
  xA0 (ok_aload_n (xdd xB_264 dJ3_init_2_64) rfl rfl) <|
  xA0 (ok_iload_n (xdd xB_264 dJ3_init_2_65) rfl rfl) <|
  xA0 (ok_iload_n (xdd xB_264 dJ3_init_2_66) rfl rfl) <|
  xA1 (ok_putA (xdd xB_264 dJ3_init_2_70) rfl (lk_f q646) rfl xfd_160 (Or.inr ⟨_, rfl⟩) (Or.inr ⟨rfl, rfl, rfl⟩)) <|
  xAR (ok_vreturn (xdd xB_264 dJ3_init_2_73) rfl) <|
  xAe
theorem xe_264 {s0 : State} {A0 : Array Value} {D : va_G} {ta : Nat → ClassId} {l : Launch} : XAllC s0 A0 D ta l 264 xk_264 := ⟨xe_264_0, xe_264_1, xe_264_2, trivial⟩
theorem xe_265_0 {s0 : State} {A0 : Array Value} {D : va_G} {ta : Nat → ClassId} {l : Launch} : XAll s0 A0 D ta l 265 xk_265_0 :=
  xA0 (ok_aload_n (xdd xB_265 dJ3_hashCode_0) rfl rfl) <|
  xA1 (ok_getI (xdd xB_265 dJ3_hashCode_1) rfl (lk_f q648) (by decide)) <|
  xA0 (ok_istore_n (xdd xB_265 dJ3_hashCode_4) rfl rfl) <|
  xA0 (ok_iload_n (xdd xB_265 dJ3_hashCode_5) rfl rfl) <|
  xAB (ok_if_ne (xdd xB_265 dJ3_hashCode_6) rfl rfl) <|
  xA0 (ok_aload_n (xdd xB_265 dJ3_hashCode_9) rfl rfl) <|
  xA1 (ok_getI (xdd xB_265 dJ3_hashCode_10) rfl (lk_f q649) (by decide)) <|
  xAB (ok_if_ne (xdd xB_265 dJ3_hashCode_13) rfl rfl) <|
  xA0 (ok_aload_n (xdd xB_265 dJ3_hashCode_16) rfl rfl) <|
  xAK rfl (xC1 (ok_callV (xdd xB_265 dJ3_hashCode_17) rfl xq_16 rfl xp_266_0 q679 q680 q681 q126 q682) xC0) <|
  xAB (ok_if_eq (xdd xB_265 dJ3_hashCode_20) rfl rfl) <|
  xA0 (ok_aload_n (xdd xB_265 dJ3_hashCode_23) rfl rfl) <|
  xA1 (ok_getA (xdd xB_265 dJ3_hashCode_24) rfl (lk_f q646) rfl) <|
  xAK rfl (xC1 (ok_callS (xdd xB_265 dJ3_hashCode_27) rfl xp_277_1 q683 q684 q129 q685) xC0) <|
  xA0 (ok_goto (xdd xB_265 dJ3_hashCode_30) rfl) <|
  xAe
theorem xe_265_1 {s0 : State} {A0 : Array Value} {D : va_G} {ta : Nat → ClassId} {l : Launch} : XAll s0 A0 D ta l 265 xk_265_1 :=
  xA0 (ok_aload_n (xdd xB_265 dJ3_hashCode_33) rfl rfl) <|
  xA1 (ok_getA (xdd xB_265 dJ3_hashCode_34) rfl (lk_f q646) rfl) <|
  xA0 (ok_istore_n (xdd xB_265 dJ3_hashCode_40) rfl rfl) <|
  xA0 (ok_iload_n (xdd xB_265 dJ3_hashCode_41) rfl rfl) <|
  xAB (ok_if_ne (xdd xB_265 dJ3_hashCode_42) rfl rfl) <|
  xA0 (ok_aload_n (xdd xB_265 dJ3_hashCode_45) rfl rfl) <|
  xA0 (ok_iconst (xdd xB_265 dJ3_hashCode_46) rfl rfl (xrg rfl)) <|
  xA1 (ok_putZ (xdd xB_265 dJ3_hashCode_47) rfl (lk_f q649) rfl xfd_163 (Or.inl rfl)) <|
  xA0 (ok_goto (xdd xB_265 dJ3_hashCode_50) rfl) <|
  xA0 (ok_aload_n (xdd xB_265 dJ3_hashCode_53) rfl rfl) <|
  xA0 (ok_iload_n (xdd xB_265 dJ3_hashCode_54) rfl rfl) <|
  xA1 (ok_putI (xdd xB_265 dJ3_hashCode_55) rfl (lk_f q648) rfl xfd_162 (Or.inl rfl)) <|
  xA0 (ok_iload_n (xdd xB_265 dJ3_hashCode_58) rfl rfl) <|
  xAR (ok_ireturn (xdd xB_265 dJ3_hashCode_59) rfl) <|
  xAe
theorem xe_265 {s0 : State} {A0 : Array Value} {D : va_G} {ta : Nat → ClassId} {l : Launch} : XAllC s0 A0 D ta l 265 xk_265 := ⟨xe_265_0, xe_265_1, trivial⟩
theorem xe_266_0 {s0 : State} {A0 : Array Value} {D : va_G} {ta : Nat → ClassId} {l : Launch} : XAll s0 A0 D ta l 266 xk_266_0 :=
  xA0 (ok_getsCS (xdd xB_266 dJ3_isLatin1_0) rfl q602) <|
  xAB (ok_if_eq (xdd xB_266 dJ3_isLatin1_3) rfl rfl) <|
  xA0 (ok_aload_n (xdd xB_266 dJ3_isLatin1_6) rfl rfl) <|
  xA1 (ok_getI (xdd xB_266 dJ3_isLatin1_7) rfl (lk_f q647) (by decide)) <|
  xAB (ok_if_ne (xdd xB_266 dJ3_isLatin1_10) rfl rfl) <|
  xA0 (ok_iconst (xdd xB_266 dJ3_isLatin1_13) rfl rfl (xrg rfl)) <|
  xA0 (ok_goto (xdd xB_266 dJ3_isLatin1_14) rfl) <|
  xA0 (ok_iconst (xdd xB_266 dJ3_isLatin1_17) rfl rfl (xrg rfl)) <|
  xAR (ok_zreturn (xdd xB_266 dJ3_isLatin1_18) rfl) <|
  xAe
theorem xe_266 {s0 : State} {A0 : Array Value} {D : va_G} {ta : Nat → ClassId} {l : Launch} : XAllC s0 A0 D ta l 266 xk_266 := ⟨xe_266_0, trivial⟩
theorem xe_267_0 {s0 : State} {A0 : Array Value} {D : va_G} {ta : Nat → ClassId} {l : Launch} : XAll s0 A0 D ta l 267 xk_267_0 :=
  xA0 (ok_aload_n (xdd xB_267 dJ3_equals_0) rfl rfl) <|
  xA0 (ok_aload_n (xdd xB_267 dJ3_equals_1) rfl rfl) <|
  xAB (ok_acmp_ne (xdd xB_267 dJ3_equals_2) rfl rfl) <|
  xA0 (ok_iconst (xdd xB_267 dJ3_equals_5) rfl rfl (xrg rfl)) <|
  xAR (ok_zreturn (xdd xB_267 dJ3_equals_6) rfl) <|
  xA0 (ok_aload_n (xdd xB_267 dJ3_equals_7) rfl rfl) <|
  xA1 (ok_inst (xdd xB_267 dJ3_equals_8) rfl xq_16 q733 xno_String) <|
  xAB (ok_if_eq (xdd xB_267 dJ3_equals_11) rfl rfl) <|
  xA0 (ok_aload_n (xdd xB_267 dJ3_equals_14) rfl rfl) <|
  xA1 (ok_cast (xdd xB_267 dJ3_equals_15) rfl xq_16 q733) <|
  xA0 (ok_astore_n (xdd xB_267 dJ3_equals_18) rfl rfl) <|
  xA0 (ok_getsCS (xdd xB_267 dJ3_equals_19) rfl q602) <|
  xAB (ok_if_eq (xdd xB_267 dJ3_equals_22) rfl rfl) <|
  xA0 (ok_aload_n (xdd xB_267 dJ3_equals_25) rfl rfl) <|
  xA1 (ok_getI (xdd xB_267 dJ3_equals_26) rfl (lk_f q647) (by decide)) <|
  xA0 (ok_aload_n (xdd xB_267 dJ3_equals_29) rfl rfl) <|
  xA1 (ok_getI (xdd xB_267 dJ3_equals_30) rfl (lk_f q647) (by decide)) <|
  xAe
theorem xe_267_1 {s0 : State} {A0 : Array Value} {D : va_G} {ta : Nat → ClassId} {l : Launch} : XAll s0 A0 D ta l 267 xk_267_1 :=
  xAB (ok_icmp_ne (xdd xB_267 dJ3_equals_33) rfl rfl) <|
  xA0 (ok_aload_n (xdd xB_267 dJ3_equals_36) rfl rfl) <|
  xA1 (ok_getA (xdd xB_267 dJ3_equals_37) rfl (lk_f q646) rfl) <|
  xA0 (ok_aload_n (xdd xB_267 dJ3_equals_40) rfl rfl) <|
  xA1 (ok_getA (xdd xB_267 dJ3_equals_41) rfl (lk_f q646) rfl) <|
  xAK rfl (xC1 (ok_callS (xdd xB_267 dJ3_equals_44) rfl xp_278_2 q734 q735 q129 q736) xC0) <|
  xAB (ok_if_eq (xdd xB_267 dJ3_equals_47) rfl rfl) <|
  xA0 (ok_iconst (xdd xB_267 dJ3_equals_50) rfl rfl (xrg rfl)) <|
  xA0 (ok_goto (xdd xB_267 dJ3_equals_51) rfl) <|
  xA0 (ok_iconst (xdd xB_267 dJ3_equals_54) rfl rfl (xrg rfl)) <|
  xAR (ok_zreturn (xdd xB_267 dJ3_equals_55) rfl) <|
  xAe
theorem xe_267 {s0 : State} {A0 : Array Value} {D : va_G} {ta : Nat → ClassId} {l : Launch} : XAllC s0 A0 D ta l 267 xk_267 := ⟨xe_267_0, xe_267_1, trivial⟩
theorem xe_268_0 {s0 : State} {A0 : Array Value} {D : va_G} {ta : Nat → ClassId} {l : Launch} : XAll s0 A0 D ta l 268 xk_268_0 :=
  xA0 (ok_aload_n (xdd xB_268 dJ3_length_0) rfl rfl) <|
  xA1 (ok_getA (xdd xB_268 dJ3_length_1) rfl (lk_f q646) rfl) <|
  xA1 (ok_alen (xdd xB_268 dJ3_length_4) rfl) <|
  xA0 (ok_aload_n (xdd xB_268 dJ3_length_5) rfl rfl) <|
  xAK rfl (xC1 (ok_callV (xdd xB_268 dJ3_length_6) rfl xq_16 rfl xp_269_0 q1682 q1683 q1684 q126 q1685) xC0) <|
  xA1 (ok_ishr (xdd xB_268 dJ3_length_9) rfl) <|
  xAR (ok_ireturn (xdd xB_268 dJ3_length_10) rfl) <|
  xAe
theorem xe_268 {s0 : State} {A0 : Array Value} {D : va_G} {ta : Nat → ClassId} {l : Launch} : XAllC s0 A0 D ta l 268 xk_268 := ⟨xe_268_0, trivial⟩
theorem xe_269_0 {s0 : State} {A0 : Array Value} {D : va_G} {ta : Nat → ClassId} {l : Launch} : XAll s0 A0 D ta l 269 xk_269_0 :=
  xA0 (ok_getsCS (xdd xB_269 dJ3_coder_0) rfl q602) <|
  xAB (ok_if_eq (xdd xB_269 dJ3_coder_3) rfl rfl) <|
  xA0 (ok_aload_n (xdd xB_269 dJ3_coder_6) rfl rfl) <|
  xA1 (ok_getI (xdd xB_269 dJ3_coder_7) rfl (lk_f q647) (by decide)) <|
  xA0 (ok_goto (xdd xB_269 dJ3_coder_10) rfl) <|
  xA0 (ok_iconst (xdd xB_269 dJ3_coder_13) rfl rfl (xrg rfl)) <|
  xAR (ok_breturn (xdd xB_269 dJ3_coder_14) rfl) <|
  xAe
theorem xe_269 {s0 : State} {A0 : Array Value} {D : va_G} {ta : Nat → ClassId} {l : Launch} : XAllC s0 A0 D ta l 269 xk_269 := ⟨xe_269_0, trivial⟩
theorem xe_270_0 {s0 : State} {A0 : Array Value} {D : va_G} {ta : Nat → ClassId} {l : Launch} : XAll s0 A0 D ta l 270 xk_270_0 :=
  xA0 (ok_aload_n (xdd xB_270 dJ3_charAt_0) rfl rfl) <|
  xAK rfl (xC1 (ok_callV (xdd xB_270 dJ3_charAt_1) rfl xq_16 rfl xp_266_0 q679 q680 q681 q126 q682) xC0) <|
  xAB (ok_if_eq (xdd xB_270 dJ3_charAt_4) rfl rfl) <|
  xA0 (ok_aload_n (xdd xB_270 dJ3_charAt_7) rfl rfl) <|
  xA1 (ok_getA (xdd xB_270 dJ3_charAt_8) rfl (lk_f q646) rfl) <|
  xA0 (ok_iload_n (xdd xB_270 dJ3_charAt_11) rfl rfl) <|
  xAK rfl (xC1 (ok_callS (xdd xB_270 dJ3_charAt_12) rfl xp_279_2 q1690 q1691 q129 q1692) xC0) <|
  xAR (ok_creturn (xdd xB_270 dJ3_charAt_15) rfl) <|
  xA0 (ok_aload_n (xdd xB_270 dJ3_charAt_16) rfl rfl) <|
  xA1 (ok_getA (xdd xB_270 dJ3_charAt_17) rfl (lk_f q646) rfl) <|
  xA0 (ok_iload_n (xdd xB_270 dJ3_charAt_20) rfl rfl) <|
  xAR (ok_creturn (xdd xB_270 dJ3_charAt_24) rfl) <|
  xAe
theorem xe_270 {s0 : State} {A0 : Array Value} {D : va_G} {ta : Nat → ClassId} {l : Launch} : XAllC s0 A0 D ta l 270 xk_270 := ⟨xe_270_0, trivial⟩
theorem xe_271_0 {s0 : State} {A0 : Array Value} {D : va_G} {ta : Nat → ClassId} {l : Launch} : XAll s0 A0 D ta l 271 xk_271_0 :=
  xA0 (ok_iload_n (xdd xB_271 dJ3_checkIndex_0) rfl rfl) <|
  xA0 (ok_iload_n (xdd xB_271 dJ3_checkIndex_1) rfl rfl) <|
  xA0 (ok_getsSF (xdd xB_271 dJ3_checkIndex_2) rfl q592) <|
  xAK rfl (xC1 (ok_callS (xdd xB_271 dJ3_checkIndex_5) rfl xp_273_3 q1696 q1697 q127 q1698) xC0) <|
  xA0 (ok_pop (xdd xB_271 dJ3_checkIndex_8) rfl) <|
  xAR (ok_vreturn (xdd xB_271 dJ3_checkIndex_9) rfl) <|
  xAe
theorem xe_271 {s0 : State} {A0 : Array Value} {D : va_G} {ta : Nat → ClassId} {l : Launch} : XAllC s0 A0 D ta l 271 xk_271 := ⟨xe_271_0, trivial⟩
theorem xe_272_0 {s0 : State} {A0 : Array Value} {D : va_G} {ta : Nat → ClassId} {l : Launch} : XAll s0 A0 D ta l 272 xk_272_0 :=
  xA0 (ok_iload_n (xdd xB_272 dJ4_checkFromIndexSize_0) rfl rfl) <|
  xA0 (ok_iload_n (xdd xB_272 dJ4_checkFromIndexSize_1) rfl rfl) <|
  xA0 (ok_ior (xdd xB_272 dJ4_checkFromIndexSize_2) rfl) <|
  xA0 (ok_iload_n (xdd xB_272 dJ4_checkFromIndexSize_3) rfl rfl) <|
  xA0 (ok_ior (xdd xB_272 dJ4_checkFromIndexSize_4) rfl) <|
  xAB (ok_if_lt (xdd xB_272 dJ4_checkFromIndexSize_5) rfl rfl) <|
  xA0 (ok_iload_n (xdd xB_272 dJ4_checkFromIndexSize_8) rfl rfl) <|
  xA0 (ok_iload_n (xdd xB_272 dJ4_checkFromIndexSize_9) rfl rfl) <|
  xA0 (ok_iload_n (xdd xB_272 dJ4_checkFromIndexSize_10) rfl rfl) <|
  xA1 (ok_isub (xdd xB_272 dJ4_checkFromIndexSize_11) rfl) <|
  xAB (ok_icmp_le (xdd xB_272 dJ4_checkFromIndexSize_12) rfl rfl) <|
  xA0 (ok_aload_n (xdd xB_272 dJ4_checkFromIndexSize_15) rfl rfl) <|
  xA0 (ok_iload_n (xdd xB_272 dJ4_checkFromIndexSize_16) rfl rfl) <|
  xA0 (ok_iload_n (xdd xB_272 dJ4_checkFromIndexSize_17) rfl rfl) <|
  xA0 (ok_iload_n (xdd xB_272 dJ4_checkFromIndexSize_18) rfl rfl) <|
  xAT ((xdd xB_272 dJ4_checkFromIndexSize_22)) <|
  xA0 (ok_iload_n (xdd xB_272 dJ4_checkFromIndexSize_23) rfl rfl) <|
  xAR (ok_ireturn (xdd xB_272 dJ4_checkFromIndexSize_24) rfl) <|
  xAe
theorem xe_272 {s0 : State} {A0 : Array Value} {D : va_G} {ta : Nat → ClassId} {l : Launch} : XAllC s0 A0 D ta l 272 xk_272 := ⟨xe_272_0, trivial⟩
theorem xe_273_0 {s0 : State} {A0 : Array Value} {D : va_G} {ta : Nat → ClassId} {l : Launch} : XAll s0 A0 D ta l 273 xk_273_0 :=
  xA0 (ok_iload_n (xdd xB_273 dJ4_checkIndex_0) rfl rfl) <|
  xAB (ok_if_lt (xdd xB_273 dJ4_checkIndex_1) rfl rfl) <|
  xA0 (ok_iload_n (xdd xB_273 dJ4_checkIndex_4) rfl rfl) <|
  xA0 (ok_iload_n (xdd xB_273 dJ4_checkIndex_5) rfl rfl) <|
  xAB (ok_icmp_lt (xdd xB_273 dJ4_checkIndex_6) rfl rfl) <|
  xA0 (ok_aload_n (xdd xB_273 dJ4_checkIndex_9) rfl rfl) <|
  xA0 (ok_iload_n (xdd xB_273 dJ4_checkIndex_10) rfl rfl) <|
  xA0 (ok_iload_n (xdd xB_273 dJ4_checkIndex_11) rfl rfl) <|
  xAT ((xdd xB_273 dJ4_checkIndex_15)) <|
  xA0 (ok_iload_n (xdd xB_273 dJ4_checkIndex_16) rfl rfl) <|
  xAR (ok_ireturn (xdd xB_273 dJ4_checkIndex_17) rfl) <|
  xAe
theorem xe_273 {s0 : State} {A0 : Array Value} {D : va_G} {ta : Nat → ClassId} {l : Launch} : XAllC s0 A0 D ta l 273 xk_273 := ⟨xe_273_0, trivial⟩
theorem xe_274_0 {s0 : State} {A0 : Array Value} {D : va_G} {ta : Nat → ClassId} {l : Launch} : XAll s0 A0 D ta l 274 xk_274_0 :=
  xA0 (ok_iload_n (xdd xB_274 dJ5_compress_0) rfl rfl) <|
  xA1 (ok_new_byte (xdd xB_274 dJ5_compress_1) rfl) <|
  xA0 (ok_astore_n (xdd xB_274 dJ5_compress_3) rfl rfl) <|
  xA0 (ok_aload_n (xdd xB_274 dJ5_compress_4) rfl rfl) <|
  xA0 (ok_iload_n (xdd xB_274 dJ5_compress_5) rfl rfl) <|
  xA0 (ok_aload_n (xdd xB_274 dJ5_compress_6) rfl rfl) <|
  xA0 (ok_iconst (xdd xB_274 dJ5_compress_7) rfl rfl (xrg rfl)) <|
  xA0 (ok_iload_n (xdd xB_274 dJ5_compress_8) rfl rfl) <|
  xAK rfl (xC1 (ok_callS (xdd xB_274 dJ5_compress_9) rfl xp_275_5 q607 q608 q128 q609) xC0) <|
  xA0 (ok_istore (xdd xB_274 dJ5_compress_12) rfl) <|
  xA0 (ok_iload (xdd xB_274 dJ5_compress_14) rfl) <|
  xA0 (ok_iload_n (xdd xB_274 dJ5_compress_16) rfl rfl) <|
  xAB (ok_icmp_eq (xdd xB_274 dJ5_compress_17) rfl rfl) <|
  xA0 (ok_aload_n (xdd xB_274 dJ5_compress_20) rfl rfl) <|
  xA0 (ok_iload_n (xdd xB_274 dJ5_compress_21) rfl rfl) <|
  xA0 (ok_iload_n (xdd xB_274 dJ5_compress_22) rfl rfl) <|
  xA0 (ok_astore (xdd xB_274 dJ5_compress_26) rfl) <|
  xA0 (ok_aload (xdd xB_274 dJ5_compress_28) rfl) <|
  xA0 (ok_iload (xdd xB_274 dJ5_compress_30) rfl) <|
  xAe
theorem xe_274_1 {s0 : State} {A0 : Array Value} {D : va_G} {ta : Nat → ClassId} {l : Launch} : XAll s0 A0 D ta l 274 xk_274_1 :=
  xA0 (ok_sipush (xdd xB_274 dJ5_compress_35) rfl rfl (xrg rfl)) <|
  xAB (ok_icmp_gt (xdd xB_274 dJ5_compress_38) rfl rfl) <|
  xA0 (ok_aload (xdd xB_274 dJ5_compress_41) rfl) <|
  xA0 (ok_iconst (xdd xB_274 dJ5_compress_43) rfl rfl (xrg rfl)) <|
  xA0 (ok_aload_n (xdd xB_274 dJ5_compress_44) rfl rfl) <|
  xA0 (ok_iconst (xdd xB_274 dJ5_compress_45) rfl rfl (xrg rfl)) <|
  xA0 (ok_iload_n (xdd xB_274 dJ5_compress_46) rfl rfl) <|
  xA0 (ok_iload_n (xdd xB_274 dJ5_compress_50) rfl rfl) <|
  xAB (ok_icmp_eq (xdd xB_274 dJ5_compress_51) rfl rfl) <|
  xA0 (ok_aload (xdd xB_274 dJ5_compress_54) rfl) <|
  xAR (ok_areturn (xdd xB_274 dJ5_compress_56) rfl (Or.inr ⟨_, rfl⟩)) <|
  xA0 (ok_aload_n (xdd xB_274 dJ5_compress_57) rfl rfl) <|
  xAR (ok_areturn (xdd xB_274 dJ5_compress_58) rfl (Or.inr ⟨_, rfl⟩)) <|
  xAe
theorem xe_274 {s0 : State} {A0 : Array Value} {D : va_G} {ta : Nat → ClassId} {l : Launch} : XAllC s0 A0 D ta l 274 xk_274 := ⟨xe_274_0, xe_274_1, trivial⟩
theorem xe_275_0 {s0 : State} {A0 : Array Value} {D : va_G} {ta : Nat → ClassId} {l : Launch} : XAll s0 A0 D ta l 275 xk_275_0 :=
  xA0 (ok_iconst (xdd xB_275 dJ5_compress_2_0) rfl rfl (xrg rfl)) <|
  xA0 (ok_istore (xdd xB_275 dJ5_compress_2_1) rfl) <|
  xA0 (ok_iload (xdd xB_275 dJ5_compress_2_3) rfl) <|
  xA0 (ok_iload (xdd xB_275 dJ5_compress_2_5) rfl) <|
  xAB (ok_icmp_ge (xdd xB_275 dJ5_compress_2_7) rfl rfl) <|
  xA0 (ok_aload_n (xdd xB_275 dJ5_compress_2_10) rfl rfl) <|
  xA0 (ok_iload_n (xdd xB_275 dJ5_compress_2_11) rfl rfl) <|
  xA1 (ok_caload (xdd xB_275 dJ5_compress_2_12) rfl) <|
  xA0 (ok_istore (xdd xB_275 dJ5_compress_2_13) rfl) <|
  xA0 (ok_iload (xdd xB_275 dJ5_compress_2_15) rfl) <|
  xA0 (ok_sipush (xdd xB_275 dJ5_compress_2_17) rfl rfl (xrg rfl)) <|
  xAB (ok_icmp_le (xdd xB_275 dJ5_compress_2_20) rfl rfl) <|
  xA0 (ok_iload (xdd xB_275 dJ5_compress_2_23) rfl) <|
  xAR (ok_ireturn (xdd xB_275 dJ5_compress_2_25) rfl) <|
  xA0 (ok_aload_n (xdd xB_275 dJ5_compress_2_26) rfl rfl) <|
  xA0 (ok_iload_n (xdd xB_275 dJ5_compress_2_27) rfl rfl) <|
  xA0 (ok_iload (xdd xB_275 dJ5_compress_2_28) rfl) <|
  xA0 (ok_i2b (xdd xB_275 dJ5_compress_2_30) rfl) <|
  xA1 (ok_bastore (xdd xB_275 dJ5_compress_2_31) rfl) <|
  xAe
theorem xe_275_1 {s0 : State} {A0 : Array Value} {D : va_G} {ta : Nat → ClassId} {l : Launch} : XAll s0 A0 D ta l 275 xk_275_1 :=
  xA1 (ok_iinc (xdd xB_275 dJ5_compress_2_32) rfl) <|
  xA1 (ok_iinc (xdd xB_275 dJ5_compress_2_35) rfl) <|
  xA1 (ok_iinc (xdd xB_275 dJ5_compress_2_38) rfl) <|
  xA0 (ok_goto (xdd xB_275 dJ5_compress_2_41) rfl) <|
  xA0 (ok_iload (xdd xB_275 dJ5_compress_2_44) rfl) <|
  xAR (ok_ireturn (xdd xB_275 dJ5_compress_2_46) rfl) <|
  xAe
theorem xe_275 {s0 : State} {A0 : Array Value} {D : va_G} {ta : Nat → ClassId} {l : Launch} : XAllC s0 A0 D ta l 275 xk_275 := ⟨xe_275_0, xe_275_1, trivial⟩
theorem xe_276_0 {s0 : State} {A0 : Array Value} {D : va_G} {ta : Nat → ClassId} {l : Launch} : XAll s0 A0 D ta l 276 xk_276_0 :=
  xA0 (ok_iload_n (xdd xB_276 dJ5_coderFromArrayLen_0) rfl rfl) <|
  xA0 (ok_aload_n (xdd xB_276 dJ5_coderFromArrayLen_1) rfl rfl) <|
  xA1 (ok_alen (xdd xB_276 dJ5_coderFromArrayLen_2) rfl) <|
  xA1 (ok_isub (xdd xB_276 dJ5_coderFromArrayLen_3) rfl) <|
  xA0 (ok_bipush (xdd xB_276 dJ5_coderFromArrayLen_4) rfl rfl (xrg rfl)) <|
  xA0 (ok_iushr (xdd xB_276 dJ5_coderFromArrayLen_6) rfl) <|
  xA0 (ok_i2b (xdd xB_276 dJ5_coderFromArrayLen_7) rfl) <|
  xAR (ok_breturn (xdd xB_276 dJ5_coderFromArrayLen_8) rfl) <|
  xAe
theorem xe_276 {s0 : State} {A0 : Array Value} {D : va_G} {ta : Nat → ClassId} {l : Launch} : XAllC s0 A0 D ta l 276 xk_276 := ⟨xe_276_0, trivial⟩
theorem xe_277_0 {s0 : State} {A0 : Array Value} {D : va_G} {ta : Nat → ClassId} {l : Launch} : XAll s0 A0 D ta l 277 xk_277_0 :=
  xA0 (ok_aload_n (xdd xB_277 dJ6_hashCode_0) rfl rfl) <|
  xA1 (ok_alen (xdd xB_277 dJ6_hashCode_1) rfl) <|
  xA0 (ok_lsw (xdd xB_277 dJ6_hashCode_2) rfl rfl rfl rfl (np := 0)) <|
  xA0 (ok_iconst (xdd xB_277 dJ6_hashCode_28) rfl rfl (xrg rfl)) <|
  xA0 (ok_goto (xdd xB_277 dJ6_hashCode_29) rfl) <|
  xAe
theorem xe_277_1 {s0 : State} {A0 : Array Value} {D : va_G} {ta : Nat → ClassId} {l : Launch} : XAll s0 A0 D ta l 277 xk_277_1 :=
  xA0 (ok_aload_n (xdd xB_277 dJ6_hashCode_32) rfl rfl) <|
  xA0 (ok_iconst (xdd xB_277 dJ6_hashCode_33) rfl rfl (xrg rfl)) <|
  xA1 (ok_baload (xdd xB_277 dJ6_hashCode_34) rfl) <|
  xA0 (ok_sipush (xdd xB_277 dJ6_hashCode_35) rfl rfl (xrg rfl)) <|
  xA0 (ok_iand (xdd xB_277 dJ6_hashCode_38) rfl) <|
  xA0 (ok_goto (xdd xB_277 dJ6_hashCode_39) rfl) <|
  xA0 (ok_aload_n (xdd xB_277 dJ6_hashCode_42) rfl rfl) <|
  xA0 (ok_iconst (xdd xB_277 dJ6_hashCode_43) rfl rfl (xrg rfl)) <|
  xA0 (ok_aload_n (xdd xB_277 dJ6_hashCode_44) rfl rfl) <|
  xA1 (ok_alen (xdd xB_277 dJ6_hashCode_45) rfl) <|
  xA0 (ok_iconst (xdd xB_277 dJ6_hashCode_46) rfl rfl (xrg rfl)) <|
  xA0 (ok_iconst (xdd xB_277 dJ6_hashCode_47) rfl rfl (xrg rfl)) <|
  xAK rfl (xC1 (ok_callS (xdd xB_277 dJ6_hashCode_48) rfl xp_280_5 q686 q687 q130 q688) xC0) <|
  xAR (ok_ireturn (xdd xB_277 dJ6_hashCode_51) rfl) <|
  xAe
theorem xe_277 {s0 : State} {A0 : Array Value} {D : va_G} {ta : Nat → ClassId} {l : Launch} : XAllC s0 A0 D ta l 277 xk_277 := ⟨xe_277_0, xe_277_1, trivial⟩
theorem xe_278_0 {s0 : State} {A0 : Array Value} {D : va_G} {ta : Nat → ClassId} {l : Launch} : XAll s0 A0 D ta l 278 xk_278_0 :=
  xA0 (ok_aload_n (xdd xB_278 dJ6_equals_0) rfl rfl) <|
  xA1 (ok_alen (xdd xB_278 dJ6_equals_1) rfl) <|
  xA0 (ok_aload_n (xdd xB_278 dJ6_equals_2) rfl rfl) <|
  xA1 (ok_alen (xdd xB_278 dJ6_equals_3) rfl) <|
  xAB (ok_icmp_ne (xdd xB_278 dJ6_equals_4) rfl rfl) <|
  xA0 (ok_iconst (xdd xB_278 dJ6_equals_7) rfl rfl (xrg rfl)) <|
  xA0 (ok_istore_n (xdd xB_278 dJ6_equals_8) rfl rfl) <|
  xA0 (ok_iload_n (xdd xB_278 dJ6_equals_9) rfl rfl) <|
  xA0 (ok_aload_n (xdd xB_278 dJ6_equals_10) rfl rfl) <|
  xA1 (ok_alen (xdd xB_278 dJ6_equals_11) rfl) <|
  xAB (ok_icmp_ge (xdd xB_278 dJ6_equals_12) rfl rfl) <|
  xA0 (ok_aload_n (xdd xB_278 dJ6_equals_15) rfl rfl) <|
  xA0 (ok_iload_n (xdd xB_278 dJ6_equals_16) rfl rfl) <|
  xA1 (ok_baload (xdd xB_278 dJ6_equals_17) rfl) <|
  xA0 (ok_aload_n (xdd xB_278 dJ6_equals_18) rfl rfl) <|
  xA0 (ok_iload_n (xdd xB_278 dJ6_equals_19) rfl rfl) <|
  xA1 (ok_baload (xdd xB_278 dJ6_equals_20) rfl) <|
  xAB (ok_icmp_eq (xdd xB_278 dJ6_equals_21) rfl rfl) <|
  xA0 (ok_iconst (xdd xB_278 dJ6_equals_24) rfl rfl (xrg rfl)) <|
  xAR (ok_zreturn (xdd xB_278 dJ6_equals_25) rfl) <|
  xA1 (ok_iinc (xdd xB_278 dJ6_equals_26) rfl) <|
  xA0 (ok_goto (xdd xB_278 dJ6_equals_29) rfl) <|
  xAe
theorem xe_278_1 {s0 : State} {A0 : Array Value} {D : va_G} {ta : Nat → ClassId} {l : Launch} : XAll s0 A0 D ta l 278 xk_278_1 :=
  xA0 (ok_iconst (xdd xB_278 dJ6_equals_32) rfl rfl (xrg rfl)) <|
  xAR (ok_zreturn (xdd xB_278 dJ6_equals_33) rfl) <|
  xA0 (ok_iconst (xdd xB_278 dJ6_equals_34) rfl rfl (xrg rfl)) <|
  xAR (ok_zreturn (xdd xB_278 dJ6_equals_35) rfl) <|
  xAe
theorem xe_278 {s0 : State} {A0 : Array Value} {D : va_G} {ta : Nat → ClassId} {l : Launch} : XAllC s0 A0 D ta l 278 xk_278 := ⟨xe_278_0, xe_278_1, trivial⟩
theorem xe_279_0 {s0 : State} {A0 : Array Value} {D : va_G} {ta : Nat → ClassId} {l : Launch} : XAll s0 A0 D ta l 279 xk_279_0 :=
  xA0 (ok_iload_n (xdd xB_279 dJ6_charAt_0) rfl rfl) <|
  xA0 (ok_aload_n (xdd xB_279 dJ6_charAt_1) rfl rfl) <|
  xA1 (ok_alen (xdd xB_279 dJ6_charAt_2) rfl) <|
  xAK rfl (xC1 (ok_callS (xdd xB_279 dJ6_charAt_3) rfl xp_271_2 q1693 q1694 q126 q1695) xC0) <|
  xA0 (ok_aload_n (xdd xB_279 dJ6_charAt_6) rfl rfl) <|
  xA0 (ok_iload_n (xdd xB_279 dJ6_charAt_7) rfl rfl) <|
  xA1 (ok_baload (xdd xB_279 dJ6_charAt_8) rfl) <|
  xA0 (ok_sipush (xdd xB_279 dJ6_charAt_9) rfl rfl (xrg rfl)) <|
  xA0 (ok_iand (xdd xB_279 dJ6_charAt_12) rfl) <|
  xA1 (ok_i2c (xdd xB_279 dJ6_charAt_13) rfl) <|
  xAR (ok_creturn (xdd xB_279 dJ6_charAt_14) rfl) <|
  xAe
theorem xe_279 {s0 : State} {A0 : Array Value} {D : va_G} {ta : Nat → ClassId} {l : Launch} : XAllC s0 A0 D ta l 279 xk_279 := ⟨xe_279_0, trivial⟩
theorem xe_280_0 {s0 : State} {A0 : Array Value} {D : va_G} {ta : Nat → ClassId} {l : Launch} : XAll s0 A0 D ta l 280 xk_280_0 :=
  xA0 (ok_iload (xdd xB_280 dJ7_vectorizedHashCode_0) rfl) <|
  xA0 (ok_tsw (xdd xB_280 dJ7_vectorizedHashCode_2) rfl rfl rfl rfl (np := 0)) <|
  xAe
theorem xe_280_1 {s0 : State} {A0 : Array Value} {D : va_G} {ta : Nat → ClassId} {l : Launch} : XAll s0 A0 D ta l 280 xk_280_1 :=
  xA0 (ok_iload_n (xdd xB_280 dJ7_vectorizedHashCode_44) rfl rfl) <|
  xA0 (ok_aload_n (xdd xB_280 dJ7_vectorizedHashCode_45) rfl rfl) <|
  xA1 (ok_castB (xdd xB_280 dJ7_vectorizedHashCode_46) rfl q689) <|
  xA0 (ok_iload_n (xdd xB_280 dJ7_vectorizedHashCode_49) rfl rfl) <|
  xA0 (ok_iload_n (xdd xB_280 dJ7_vectorizedHashCode_50) rfl rfl) <|
  xAK rfl (xC1 (ok_callS (xdd xB_280 dJ7_vectorizedHashCode_51) rfl xp_281_4 q690 q691 q130 q692) xC0) <|
  xA0 (ok_goto (xdd xB_280 dJ7_vectorizedHashCode_54) rfl) <|
  xA0 (ok_aload_n (xdd xB_280 dJ7_vectorizedHashCode_57) rfl rfl) <|
  xAB (ok_if_eq (xdd xB_280 dJ7_vectorizedHashCode_61) rfl rfl) <|
  xAe
theorem xe_280_2 {s0 : State} {A0 : Array Value} {D : va_G} {ta : Nat → ClassId} {l : Launch} : XAll s0 A0 D ta l 280 xk_280_2 :=
  xA0 (ok_iload_n (xdd xB_280 dJ7_vectorizedHashCode_64) rfl rfl) <|
  xA0 (ok_aload_n (xdd xB_280 dJ7_vectorizedHashCode_65) rfl rfl) <|
  xA1 (ok_castB (xdd xB_280 dJ7_vectorizedHashCode_66) rfl q689) <|
  xA0 (ok_iload_n (xdd xB_280 dJ7_vectorizedHashCode_69) rfl rfl) <|
  xA0 (ok_iload_n (xdd xB_280 dJ7_vectorizedHashCode_70) rfl rfl) <|
  xA0 (ok_goto (xdd xB_280 dJ7_vectorizedHashCode_74) rfl) <|
  xA0 (ok_iload_n (xdd xB_280 dJ7_vectorizedHashCode_77) rfl rfl) <|
  xA0 (ok_aload_n (xdd xB_280 dJ7_vectorizedHashCode_78) rfl rfl) <|
  xA0 (ok_iload_n (xdd xB_280 dJ7_vectorizedHashCode_82) rfl rfl) <|
  xA0 (ok_iload_n (xdd xB_280 dJ7_vectorizedHashCode_83) rfl rfl) <|
  xA0 (ok_goto (xdd xB_280 dJ7_vectorizedHashCode_87) rfl) <|
  xA0 (ok_iload_n (xdd xB_280 dJ7_vectorizedHashCode_90) rfl rfl) <|
  xA0 (ok_aload_n (xdd xB_280 dJ7_vectorizedHashCode_91) rfl rfl) <|
  xA1 (ok_castB (xdd xB_280 dJ7_vectorizedHashCode_92) rfl q689) <|
  xA0 (ok_iload_n (xdd xB_280 dJ7_vectorizedHashCode_95) rfl rfl) <|
  xAe
theorem xe_280_3 {s0 : State} {A0 : Array Value} {D : va_G} {ta : Nat → ClassId} {l : Launch} : XAll s0 A0 D ta l 280 xk_280_3 :=
  xA0 (ok_iload_n (xdd xB_280 dJ7_vectorizedHashCode_96) rfl rfl) <|
  xA0 (ok_goto (xdd xB_280 dJ7_vectorizedHashCode_100) rfl) <|
  xA0 (ok_iload_n (xdd xB_280 dJ7_vectorizedHashCode_103) rfl rfl) <|
  xA0 (ok_aload_n (xdd xB_280 dJ7_vectorizedHashCode_104) rfl rfl) <|
  xA0 (ok_iload_n (xdd xB_280 dJ7_vectorizedHashCode_108) rfl rfl) <|
  xA0 (ok_iload_n (xdd xB_280 dJ7_vectorizedHashCode_109) rfl rfl) <|
  xA0 (ok_goto (xdd xB_280 dJ7_vectorizedHashCode_113) rfl) <|
  xA0 (ok_iload_n (xdd xB_280 dJ7_vectorizedHashCode_116) rfl rfl) <|
  xA0 (ok_aload_n (xdd xB_280 dJ7_vectorizedHashCode_117) rfl rfl) <|
  xA0 (ok_iload_n (xdd xB_280 dJ7_vectorizedHashCode_121) rfl rfl) <|
  xA0 (ok_iload_n (xdd xB_280 dJ7_vectorizedHashCode_122) rfl rfl) <|
  xA0 (ok_goto (xdd xB_280 dJ7_vectorizedHashCode_126) rfl) <|
  xAe
theorem xe_280_4 {s0 : State} {A0 : Array Value} {D : va_G} {ta : Nat → ClassId} {l : Launch} : XAll s0 A0 D ta l 280 xk_280_4 :=
  xA0 (ok_dup (xdd xB_280 dJ7_vectorizedHashCode_132) rfl) <|
  xA0 (ok_dup (xdd xB_280 dJ7_vectorizedHashCode_136) rfl) <|
  xA0 (ok_iload (xdd xB_280 dJ7_vectorizedHashCode_145) rfl) <|
  xAT ((xdd xB_280 dJ7_vectorizedHashCode_156)) <|
  xAR (ok_ireturn (xdd xB_280 dJ7_vectorizedHashCode_157) rfl) <|
  xAe
theorem xe_280 {s0 : State} {A0 : Array Value} {D : va_G} {ta : Nat → ClassId} {l : Launch} : XAllC s0 A0 D ta l 280 xk_280 := ⟨xe_280_0, xe_280_1, xe_280_2, xe_280_3, xe_280_4, trivial⟩
theorem xe_281_0 {s0 : State} {A0 : Array Value} {D : va_G} {ta : Nat → ClassId} {l : Launch} : XAll s0 A0 D ta l 281 xk_281_0 :=
  xA0 (ok_iload_n (xdd xB_281 dJ7_signedHashCode_0) rfl rfl) <|
  xA0 (ok_iload_n (xdd xB_281 dJ7_signedHashCode_1) rfl rfl) <|
  xA0 (ok_iaddW (xdd xB_281 dJ7_signedHashCode_2) rfl) <|
  xA0 (ok_istore (xdd xB_281 dJ7_signedHashCode_3) rfl) <|
  xA0 (ok_iload_n (xdd xB_281 dJ7_signedHashCode_5) rfl rfl) <|
  xA0 (ok_istore (xdd xB_281 dJ7_signedHashCode_6) rfl) <|
  xA0 (ok_iload (xdd xB_281 dJ7_signedHashCode_8) rfl) <|
  xA0 (ok_iload (xdd xB_281 dJ7_signedHashCode_10) rfl) <|
  xAB (ok_icmp_ge (xdd xB_281 dJ7_signedHashCode_12) rfl rfl) <|
  xA0 (ok_bipush (xdd xB_281 dJ7_signedHashCode_15) rfl rfl (xrg rfl)) <|
  xA0 (ok_iload_n (xdd xB_281 dJ7_signedHashCode_17) rfl rfl) <|
  xA0 (ok_imulW (xdd xB_281 dJ7_signedHashCode_18) rfl) <|
  xA0 (ok_aload_n (xdd xB_281 dJ7_signedHashCode_19) rfl rfl) <|
  xA0 (ok_iload (xdd xB_281 dJ7_signedHashCode_20) rfl) <|
  xA1 (ok_baload (xdd xB_281 dJ7_signedHashCode_22) rfl) <|
  xA0 (ok_sipush (xdd xB_281 dJ7_signedHashCode_23) rfl rfl (xrg rfl)) <|
  xA0 (ok_iand (xdd xB_281 dJ7_signedHashCode_26) rfl) <|
  xA0 (ok_iaddW (xdd xB_281 dJ7_signedHashCode_27) rfl) <|
  xA0 (ok_istore_n (xdd xB_281 dJ7_signedHashCode_28) rfl rfl) <|
  xA1 (ok_iinc (xdd xB_281 dJ7_signedHashCode_29) rfl) <|
  xAe
theorem xe_281_1 {s0 : State} {A0 : Array Value} {D : va_G} {ta : Nat → ClassId} {l : Launch} : XAll s0 A0 D ta l 281 xk_281_1 :=
  xA0 (ok_goto (xdd xB_281 dJ7_signedHashCode_32) rfl) <|
  xA0 (ok_iload_n (xdd xB_281 dJ7_signedHashCode_35) rfl rfl) <|
  xAR (ok_ireturn (xdd xB_281 dJ7_signedHashCode_36) rfl) <|
  xAe
theorem xe_281 {s0 : State} {A0 : Array Value} {D : va_G} {ta : Nat → ClassId} {l : Launch} : XAllC s0 A0 D ta l 281 xk_281 := ⟨xe_281_0, xe_281_1, trivial⟩
theorem xe_282_0 {s0 : State} {A0 : Array Value} {D : va_G} {ta : Nat → ClassId} {l : Launch} : XAll s0 A0 D ta l 282 xk_282_0 :=
  xA0 (ok_aload_n (xdd xB_282 dX13_init_0) rfl rfl) <|
  xA1 (ok_obj (xdd xB_282 dX13_init_1) rfl q795 q147 q148) <|
  xA0 (ok_aload_n (xdd xB_282 dX13_init_4) rfl rfl) <|
  xA0 (ok_aload_n (xdd xB_282 dX13_init_5) rfl rfl) <|
  xA1 (ok_putA (xdd xB_282 dX13_init_6) rfl (lk_f q814) rfl xfd_117 (Or.inl ⟨_, rfl⟩) (Or.inr ⟨rfl, rfl, rfl⟩)) <|
  xA0 (ok_aload_n (xdd xB_282 dX13_init_9) rfl rfl) <|
  xA0 (ok_iload_n (xdd xB_282 dX13_init_10) rfl rfl) <|
  xA1 (ok_putI (xdd xB_282 dX13_init_11) rfl (lk_f q819) rfl xfd_118 (Or.inr ⟨rfl, rfl, rfl⟩)) <|
  xAR (ok_vreturn (xdd xB_282 dX13_init_14) rfl) <|
  xAe
theorem xe_282 {s0 : State} {A0 : Array Value} {D : va_G} {ta : Nat → ClassId} {l : Launch} : XAllC s0 A0 D ta l 282 xk_282 := ⟨xe_282_0, trivial⟩
theorem xe_283_0 {s0 : State} {A0 : Array Value} {D : va_G} {ta : Nat → ClassId} {l : Launch} : XAll s0 A0 D ta l 283 xk_283_0 :=
  xA0 (ok_aload_n (xdd xB_283 dX14_init_0) rfl rfl) <|
  xA0 (ok_aload_n (xdd xB_283 dX14_init_1) rfl rfl) <|
  xA0 (ok_iload_n (xdd xB_283 dX14_init_2) rfl rfl) <|
  xAK rfl (xC1 (ok_callI (xdd xB_283 dX14_init_3) rfl xq_11 rfl rfl xp_282_2 q792 q793 q131 q794) (xC1 (ok_callI (xdd xB_283 dX14_init_3) rfl xq_12 rfl rfl xp_282_2 q792 q793 q131 q794) xC0)) <|
  xA0 (ok_aload_n (xdd xB_283 dX14_init_6) rfl rfl) <|
  xA0 (ok_bipush (xdd xB_283 dX14_init_7) rfl rfl (xrg rfl)) <|
  xA1 (ok_putI (xdd xB_283 dX14_init_9) rfl (lk_f q807) rfl xfd_124 (Or.inl rfl)) <|
  xA0 (ok_aload_n (xdd xB_283 dX14_init_12) rfl rfl) <|
  xA0 (ok_bipush (xdd xB_283 dX14_init_13) rfl rfl (xrg rfl)) <|
  xA1 (ok_putI (xdd xB_283 dX14_init_15) rfl (lk_f q809) rfl xfd_125 (Or.inl rfl)) <|
  xAR (ok_vreturn (xdd xB_283 dX14_init_18) rfl) <|
  xAe
theorem xe_283 {s0 : State} {A0 : Array Value} {D : va_G} {ta : Nat → ClassId} {l : Launch} : XAllC s0 A0 D ta l 283 xk_283 := ⟨xe_283_0, trivial⟩
theorem xe_284_0 {s0 : State} {A0 : Array Value} {D : va_G} {ta : Nat → ClassId} {l : Launch} : XAll s0 A0 D ta l 284 xk_284_0 :=
  xA0 (ok_iload_n (xdd xB_284 dX14_isOpen_0) rfl rfl) <|
  xA0 (ok_sipush (xdd xB_284 dX14_isOpen_1) rfl rfl (xrg rfl)) <|
  xA1 (ok_irem (xdd xB_284 dX14_isOpen_4) rfl) <|
  xA0 (ok_bipush (xdd xB_284 dX14_isOpen_5) rfl rfl (xrg rfl)) <|
  xA1 (ok_idiv (xdd xB_284 dX14_isOpen_7) rfl) <|
  xA0 (ok_aload_n (xdd xB_284 dX14_isOpen_8) rfl rfl) <|
  xA1 (ok_getI (xdd xB_284 dX14_isOpen_9) rfl (lk_f q805) (by decide)) <|
  xA0 (ok_aload_n (xdd xB_284 dX14_isOpen_12) rfl rfl) <|
  xA1 (ok_getI (xdd xB_284 dX14_isOpen_13) rfl (lk_f q807) (by decide)) <|
  xAK rfl (xC1 (ok_callSN (xdd xB_284 dX14_isOpen_16) rfl xp_6_3 q993 q482 q111 q483) xC0) <|
  xAR (ok_zreturn (xdd xB_284 dX14_isOpen_19) rfl) <|
  xAe
theorem xe_284 {s0 : State} {A0 : Array Value} {D : va_G} {ta : Nat → ClassId} {l : Launch} : XAllC s0 A0 D ta l 284 xk_284 := ⟨xe_284_0, trivial⟩
theorem xe_285_0 {s0 : State} {A0 : Array Value} {D : va_G} {ta : Nat → ClassId} {l : Launch} : XAll s0 A0 D ta l 285 xk_285_0 :=
  xA0 (ok_aload_n (xdd xB_285 dX15_init_0) rfl rfl) <|
  xA0 (ok_aload_n (xdd xB_285 dX15_init_1) rfl rfl) <|
  xA0 (ok_iload_n (xdd xB_285 dX15_init_2) rfl rfl) <|
  xAK rfl (xC1 (ok_callI (xdd xB_285 dX15_init_3) rfl xq_11 rfl rfl xp_282_2 q890 q793 q131 q794) (xC1 (ok_callI (xdd xB_285 dX15_init_3) rfl xq_12 rfl rfl xp_282_2 q890 q793 q131 q794) xC0)) <|
  xAR (ok_vreturn (xdd xB_285 dX15_init_6) rfl) <|
  xAe
theorem xe_285 {s0 : State} {A0 : Array Value} {D : va_G} {ta : Nat → ClassId} {l : Launch} : XAllC s0 A0 D ta l 285 xk_285 := ⟨xe_285_0, trivial⟩
theorem xe_286_0 {s0 : State} {A0 : Array Value} {D : va_G} {ta : Nat → ClassId} {l : Launch} : XAll s0 A0 D ta l 286 xk_286_0 :=
  xA0 (ok_aload_n (xdd xB_286 dX16_init_0) rfl rfl) <|
  xA1 (ok_obj (xdd xB_286 dX16_init_1) rfl q916 q147 q148) <|
  xA0 (ok_aload_n (xdd xB_286 dX16_init_4) rfl rfl) <|
  xA0 (ok_iload_n (xdd xB_286 dX16_init_5) rfl rfl) <|
  xA1 (ok_putI (xdd xB_286 dX16_init_6) rfl (lk_f q918) rfl xfd_130 (Or.inr ⟨rfl, rfl, rfl⟩)) <|
  xAR (ok_vreturn (xdd xB_286 dX16_init_9) rfl) <|
  xAe
theorem xe_286 {s0 : State} {A0 : Array Value} {D : va_G} {ta : Nat → ClassId} {l : Launch} : XAllC s0 A0 D ta l 286 xk_286 := ⟨xe_286_0, trivial⟩
theorem xe_287_0 {s0 : State} {A0 : Array Value} {D : va_G} {ta : Nat → ClassId} {l : Launch} : XAll s0 A0 D ta l 287 xk_287_0 :=
  xA0 (ok_aload_n (xdd xB_287 dX17_init_0) rfl rfl) <|
  xA0 (ok_iload_n (xdd xB_287 dX17_init_1) rfl rfl) <|
  xAK rfl (xC1 (ok_callI (xdd xB_287 dX17_init_2) rfl xq_13 rfl rfl xp_286_1 q913 q914 q134 q915) (xC1 (ok_callI (xdd xB_287 dX17_init_2) rfl xq_14 rfl rfl xp_286_1 q913 q914 q134 q915) xC0)) <|
  xA0 (ok_aload_n (xdd xB_287 dX17_init_5) rfl rfl) <|
  xA0 (ok_aload_n (xdd xB_287 dX17_init_6) rfl rfl) <|
  xA1 (ok_putA (xdd xB_287 dX17_init_7) rfl (lk_f q917) rfl xfd_131 (Or.inl ⟨_, rfl⟩) (Or.inr ⟨rfl, rfl, rfl⟩)) <|
  xAR (ok_vreturn (xdd xB_287 dX17_init_10) rfl) <|
  xAe
theorem xe_287 {s0 : State} {A0 : Array Value} {D : va_G} {ta : Nat → ClassId} {l : Launch} : XAllC s0 A0 D ta l 287 xk_287 := ⟨xe_287_0, trivial⟩
theorem xe_288_0 {s0 : State} {A0 : Array Value} {D : va_G} {ta : Nat → ClassId} {l : Launch} : XAll s0 A0 D ta l 288 xk_288_0 :=
  xA0 (ok_aload_n (xdd xB_288 dX17_isOf_0) rfl rfl) <|
  xA1 (ok_getA (xdd xB_288 dX17_isOf_1) rfl (lk_f q796) rfl) <|
  xA0 (ok_aload_n (xdd xB_288 dX17_isOf_4) rfl rfl) <|
  xA1 (ok_getA (xdd xB_288 dX17_isOf_5) rfl (lk_f q917) rfl) <|
  xAK rfl (xC1 (ok_callV (xdd xB_288 dX17_isOf_8) rfl xq_16 rfl xp_267_1 q1046 q730 q731 q126 q732) xC0) <|
  xAR (ok_zreturn (xdd xB_288 dX17_isOf_11) rfl) <|
  xAe
theorem xe_288 {s0 : State} {A0 : Array Value} {D : va_G} {ta : Nat → ClassId} {l : Launch} : XAllC s0 A0 D ta l 288 xk_288 := ⟨xe_288_0, trivial⟩
theorem xe_289_0 {s0 : State} {A0 : Array Value} {D : va_G} {ta : Nat → ClassId} {l : Launch} : XAll s0 A0 D ta l 289 xk_289_0 :=
  xA0 (ok_aload_n (xdd xB_289 dX18_init_0) rfl rfl) <|
  xA0 (ok_iload_n (xdd xB_289 dX18_init_1) rfl rfl) <|
  xAK rfl (xC1 (ok_callI (xdd xB_289 dX18_init_2) rfl xq_13 rfl rfl xp_286_1 q943 q914 q134 q915) (xC1 (ok_callI (xdd xB_289 dX18_init_2) rfl xq_14 rfl rfl xp_286_1 q943 q914 q134 q915) xC0)) <|
  xA0 (ok_aload_n (xdd xB_289 dX18_init_5) rfl rfl) <|
  xA0 (ok_iload_n (xdd xB_289 dX18_init_6) rfl rfl) <|
  xA1 (ok_putI (xdd xB_289 dX18_init_7) rfl (lk_f q944) rfl xfd_132 (Or.inr ⟨rfl, rfl, rfl⟩)) <|
  xAR (ok_vreturn (xdd xB_289 dX18_init_10) rfl) <|
  xAe
theorem xe_289 {s0 : State} {A0 : Array Value} {D : va_G} {ta : Nat → ClassId} {l : Launch} : XAllC s0 A0 D ta l 289 xk_289 := ⟨xe_289_0, trivial⟩
theorem xe_290_0 {s0 : State} {A0 : Array Value} {D : va_G} {ta : Nat → ClassId} {l : Launch} : XAll s0 A0 D ta l 290 xk_290_0 :=
  xA0 (ok_aload_n (xdd xB_290 dX18_isOf_0) rfl rfl) <|
  xA1 (ok_getI (xdd xB_290 dX18_isOf_1) rfl (lk_f q798) (by decide)) <|
  xA0 (ok_aload_n (xdd xB_290 dX18_isOf_4) rfl rfl) <|
  xA1 (ok_getI (xdd xB_290 dX18_isOf_5) rfl (lk_f q944) (by decide)) <|
  xAB (ok_icmp_lt (xdd xB_290 dX18_isOf_8) rfl rfl) <|
  xA0 (ok_iconst (xdd xB_290 dX18_isOf_11) rfl rfl (xrg rfl)) <|
  xA0 (ok_goto (xdd xB_290 dX18_isOf_12) rfl) <|
  xA0 (ok_iconst (xdd xB_290 dX18_isOf_15) rfl rfl (xrg rfl)) <|
  xAR (ok_zreturn (xdd xB_290 dX18_isOf_16) rfl) <|
  xAe
theorem xe_290 {s0 : State} {A0 : Array Value} {D : va_G} {ta : Nat → ClassId} {l : Launch} : XAllC s0 A0 D ta l 290 xk_290 := ⟨xe_290_0, trivial⟩
theorem xe_291_0 {s0 : State} {A0 : Array Value} {D : va_G} {ta : Nat → ClassId} {l : Launch} : XAll s0 A0 D ta l 291 xk_291_0 :=
  xA0 (ok_aload_n (xdd xB_291 dX19_init_0) rfl rfl) <|
  xA1 (ok_obj (xdd xB_291 dX19_init_1) rfl q1542 q147 q148) <|
  xA0 (ok_aload_n (xdd xB_291 dX19_init_4) rfl rfl) <|
  xA0 (ok_bipush (xdd xB_291 dX19_init_5) rfl rfl (xrg rfl)) <|
  xA1 (ok_new_int (xdd xB_291 dX19_init_7) rfl) <|
  xA1 (ok_putA (xdd xB_291 dX19_init_9) rfl (lk_f q1557) rfl xfd_143 (Or.inr ⟨_, rfl⟩) (Or.inr ⟨rfl, rfl, rfl⟩)) <|
  xA0 (ok_aload_n (xdd xB_291 dX19_init_12) rfl rfl) <|
  xA0 (ok_bipush (xdd xB_291 dX19_init_13) rfl rfl (xrg rfl)) <|
  xA1 (ok_new_int (xdd xB_291 dX19_init_15) rfl) <|
  xA1 (ok_putA (xdd xB_291 dX19_init_17) rfl (lk_f q1559) rfl xfd_144 (Or.inr ⟨_, rfl⟩) (Or.inr ⟨rfl, rfl, rfl⟩)) <|
  xA0 (ok_aload_n (xdd xB_291 dX19_init_20) rfl rfl) <|
  xA0 (ok_bipush (xdd xB_291 dX19_init_21) rfl rfl (xrg rfl)) <|
  xA1 (ok_new_int (xdd xB_291 dX19_init_23) rfl) <|
  xA1 (ok_putA (xdd xB_291 dX19_init_25) rfl (lk_f q1561) rfl xfd_145 (Or.inr ⟨_, rfl⟩) (Or.inr ⟨rfl, rfl, rfl⟩)) <|
  xA0 (ok_aload_n (xdd xB_291 dX19_init_28) rfl rfl) <|
  xA0 (ok_bipush (xdd xB_291 dX19_init_29) rfl rfl (xrg rfl)) <|
  xA1 (ok_new_int (xdd xB_291 dX19_init_31) rfl) <|
  xAe
theorem xe_291_1 {s0 : State} {A0 : Array Value} {D : va_G} {ta : Nat → ClassId} {l : Launch} : XAll s0 A0 D ta l 291 xk_291_1 :=
  xA1 (ok_putA (xdd xB_291 dX19_init_33) rfl (lk_f q1563) rfl xfd_146 (Or.inr ⟨_, rfl⟩) (Or.inr ⟨rfl, rfl, rfl⟩)) <|
  xA0 (ok_aload_n (xdd xB_291 dX19_init_36) rfl rfl) <|
  xA0 (ok_bipush (xdd xB_291 dX19_init_37) rfl rfl (xrg rfl)) <|
  xA1 (ok_new_int (xdd xB_291 dX19_init_39) rfl) <|
  xA1 (ok_putA (xdd xB_291 dX19_init_41) rfl (lk_f q1565) rfl xfd_147 (Or.inr ⟨_, rfl⟩) (Or.inr ⟨rfl, rfl, rfl⟩)) <|
  xA0 (ok_aload_n (xdd xB_291 dX19_init_44) rfl rfl) <|
  xA0 (ok_bipush (xdd xB_291 dX19_init_45) rfl rfl (xrg rfl)) <|
  xA1 (ok_new_int (xdd xB_291 dX19_init_47) rfl) <|
  xA1 (ok_putA (xdd xB_291 dX19_init_49) rfl (lk_f q1567) rfl xfd_148 (Or.inr ⟨_, rfl⟩) (Or.inr ⟨rfl, rfl, rfl⟩)) <|
  xA0 (ok_aload_n (xdd xB_291 dX19_init_52) rfl rfl) <|
  xA0 (ok_bipush (xdd xB_291 dX19_init_53) rfl rfl (xrg rfl)) <|
  xA1 (ok_new_long (xdd xB_291 dX19_init_55) rfl) <|
  xA1 (ok_putA (xdd xB_291 dX19_init_57) rfl (lk_f q1569) rfl xfd_149 (Or.inr ⟨_, rfl⟩) (Or.inr ⟨rfl, rfl, rfl⟩)) <|
  xA0 (ok_aload_n (xdd xB_291 dX19_init_60) rfl rfl) <|
  xA0 (ok_bipush (xdd xB_291 dX19_init_61) rfl rfl (xrg rfl)) <|
  xA1 (ok_new_int (xdd xB_291 dX19_init_63) rfl) <|
  xAe
theorem xe_291_2 {s0 : State} {A0 : Array Value} {D : va_G} {ta : Nat → ClassId} {l : Launch} : XAll s0 A0 D ta l 291 xk_291_2 :=
  xA1 (ok_putA (xdd xB_291 dX19_init_65) rfl (lk_f q1571) rfl xfd_150 (Or.inr ⟨_, rfl⟩) (Or.inr ⟨rfl, rfl, rfl⟩)) <|
  xA0 (ok_aload_n (xdd xB_291 dX19_init_68) rfl rfl) <|
  xA0 (ok_iconst (xdd xB_291 dX19_init_69) rfl rfl (xrg rfl)) <|
  xA1 (ok_new_int (xdd xB_291 dX19_init_70) rfl) <|
  xA1 (ok_putA (xdd xB_291 dX19_init_72) rfl (lk_f q1573) rfl xfd_151 (Or.inr ⟨_, rfl⟩) (Or.inr ⟨rfl, rfl, rfl⟩)) <|
  xA0 (ok_aload_n (xdd xB_291 dX19_init_75) rfl rfl) <|
  xA0 (ok_iconst (xdd xB_291 dX19_init_76) rfl rfl (xrg rfl)) <|
  xA1 (ok_new_int (xdd xB_291 dX19_init_77) rfl) <|
  xA1 (ok_putA (xdd xB_291 dX19_init_79) rfl (lk_f q1575) rfl xfd_152 (Or.inr ⟨_, rfl⟩) (Or.inr ⟨rfl, rfl, rfl⟩)) <|
  xA0 (ok_aload_n (xdd xB_291 dX19_init_82) rfl rfl) <|
  xA0 (ok_bipush (xdd xB_291 dX19_init_83) rfl rfl (xrg rfl)) <|
  xA1 (ok_new_int (xdd xB_291 dX19_init_85) rfl) <|
  xA1 (ok_putA (xdd xB_291 dX19_init_87) rfl (lk_f q1577) rfl xfd_153 (Or.inr ⟨_, rfl⟩) (Or.inr ⟨rfl, rfl, rfl⟩)) <|
  xA0 (ok_aload_n (xdd xB_291 dX19_init_90) rfl rfl) <|
  xA0 (ok_iconst (xdd xB_291 dX19_init_91) rfl rfl (xrg rfl)) <|
  xA1 (ok_new_int (xdd xB_291 dX19_init_92) rfl) <|
  xA1 (ok_putA (xdd xB_291 dX19_init_94) rfl (lk_f q1579) rfl xfd_154 (Or.inr ⟨_, rfl⟩) (Or.inr ⟨rfl, rfl, rfl⟩)) <|
  xAe
theorem xe_291_3 {s0 : State} {A0 : Array Value} {D : va_G} {ta : Nat → ClassId} {l : Launch} : XAll s0 A0 D ta l 291 xk_291_3 :=
  xA0 (ok_aload_n (xdd xB_291 dX19_init_97) rfl rfl) <|
  xA0 (ok_iconst (xdd xB_291 dX19_init_98) rfl rfl (xrg rfl)) <|
  xA1 (ok_new_int (xdd xB_291 dX19_init_99) rfl) <|
  xA1 (ok_putA (xdd xB_291 dX19_init_101) rfl (lk_f q1581) rfl xfd_155 (Or.inr ⟨_, rfl⟩) (Or.inr ⟨rfl, rfl, rfl⟩)) <|
  xA0 (ok_aload_n (xdd xB_291 dX19_init_104) rfl rfl) <|
  xA0 (ok_bipush (xdd xB_291 dX19_init_105) rfl rfl (xrg rfl)) <|
  xA1 (ok_new_long (xdd xB_291 dX19_init_107) rfl) <|
  xA1 (ok_putA (xdd xB_291 dX19_init_109) rfl (lk_f q1583) rfl xfd_156 (Or.inr ⟨_, rfl⟩) (Or.inr ⟨rfl, rfl, rfl⟩)) <|
  xA0 (ok_aload_n (xdd xB_291 dX19_init_112) rfl rfl) <|
  xA0 (ok_bipush (xdd xB_291 dX19_init_113) rfl rfl (xrg rfl)) <|
  xA1 (ok_new_long (xdd xB_291 dX19_init_115) rfl) <|
  xA1 (ok_putA (xdd xB_291 dX19_init_117) rfl (lk_f q1585) rfl xfd_157 (Or.inr ⟨_, rfl⟩) (Or.inr ⟨rfl, rfl, rfl⟩)) <|
  xA0 (ok_aload_n (xdd xB_291 dX19_init_120) rfl rfl) <|
  xA0 (ok_bipush (xdd xB_291 dX19_init_121) rfl rfl (xrg rfl)) <|
  xA1 (ok_new_int (xdd xB_291 dX19_init_123) rfl) <|
  xA1 (ok_putA (xdd xB_291 dX19_init_125) rfl (lk_f q1587) rfl xfd_158 (Or.inr ⟨_, rfl⟩) (Or.inr ⟨rfl, rfl, rfl⟩)) <|
  xAe
theorem xe_291_4 {s0 : State} {A0 : Array Value} {D : va_G} {ta : Nat → ClassId} {l : Launch} : XAll s0 A0 D ta l 291 xk_291_4 :=
  xA0 (ok_aload_n (xdd xB_291 dX19_init_128) rfl rfl) <|
  xA0 (ok_bipush (xdd xB_291 dX19_init_129) rfl rfl (xrg rfl)) <|
  xA1 (ok_new_int (xdd xB_291 dX19_init_131) rfl) <|
  xA1 (ok_putA (xdd xB_291 dX19_init_133) rfl (lk_f q1589) rfl xfd_159 (Or.inr ⟨_, rfl⟩) (Or.inr ⟨rfl, rfl, rfl⟩)) <|
  xAR (ok_vreturn (xdd xB_291 dX19_init_136) rfl) <|
  xAe
theorem xe_291 {s0 : State} {A0 : Array Value} {D : va_G} {ta : Nat → ClassId} {l : Launch} : XAllC s0 A0 D ta l 291 xk_291 := ⟨xe_291_0, xe_291_1, xe_291_2, xe_291_3, xe_291_4, trivial⟩
theorem xe_292_0 {s0 : State} {A0 : Array Value} {D : va_G} {ta : Nat → ClassId} {l : Launch} : XAll s0 A0 D ta l 292 xk_292_0 :=
  xA0 (ok_iconst (xdd xB_292 dX19_find_0) rfl rfl (xrg rfl)) <|
  xA0 (ok_istore_n (xdd xB_292 dX19_find_1) rfl rfl) <|
  xA0 (ok_iload_n (xdd xB_292 dX19_find_2) rfl rfl) <|
  xA0 (ok_aload_n (xdd xB_292 dX19_find_3) rfl rfl) <|
  xA1 (ok_getI (xdd xB_292 dX19_find_4) rfl (lk_f q1555) (by decide)) <|
  xAB (ok_icmp_ge (xdd xB_292 dX19_find_7) rfl rfl) <|
  xA0 (ok_aload_n (xdd xB_292 dX19_find_10) rfl rfl) <|
  xA1 (ok_getA (xdd xB_292 dX19_find_11) rfl (lk_f q1585) rfl) <|
  xA0 (ok_iload_n (xdd xB_292 dX19_find_14) rfl rfl) <|
  xA1 (ok_laload (xdd xB_292 dX19_find_15) rfl) <|
  xA0 (ok_lload_n (xdd xB_292 dX19_find_16) rfl rfl) <|
  xA0 (ok_lcmp (xdd xB_292 dX19_find_17) rfl) <|
  xAB (ok_if_ne (xdd xB_292 dX19_find_18) rfl rfl) <|
  xA0 (ok_iload_n (xdd xB_292 dX19_find_21) rfl rfl) <|
  xAR (ok_ireturn (xdd xB_292 dX19_find_22) rfl) <|
  xA1 (ok_iinc (xdd xB_292 dX19_find_23) rfl) <|
  xA0 (ok_goto (xdd xB_292 dX19_find_26) rfl) <|
  xA0 (ok_iconst (xdd xB_292 dX19_find_29) rfl rfl (xrg rfl)) <|
  xAR (ok_ireturn (xdd xB_292 dX19_find_30) rfl) <|
  xAe
theorem xe_292 {s0 : State} {A0 : Array Value} {D : va_G} {ta : Nat → ClassId} {l : Launch} : XAllC s0 A0 D ta l 292 xk_292 := ⟨xe_292_0, trivial⟩
theorem xe_293_0 {s0 : State} {A0 : Array Value} {D : va_G} {ta : Nat → ClassId} {l : Launch} : XAll s0 A0 D ta l 293 xk_293_0 :=
  xA0 (ok_iconst (xdd xB_293 dX19_isOf_0) rfl rfl (xrg rfl)) <|
  xA0 (ok_istore_n (xdd xB_293 dX19_isOf_1) rfl rfl) <|
  xA0 (ok_iload_n (xdd xB_293 dX19_isOf_2) rfl rfl) <|
  xA0 (ok_aload_n (xdd xB_293 dX19_isOf_3) rfl rfl) <|
  xA1 (ok_getI (xdd xB_293 dX19_isOf_4) rfl (lk_f q1545) (by decide)) <|
  xAB (ok_icmp_ge (xdd xB_293 dX19_isOf_7) rfl rfl) <|
  xA0 (ok_aload_n (xdd xB_293 dX19_isOf_10) rfl rfl) <|
  xA1 (ok_getA (xdd xB_293 dX19_isOf_11) rfl (lk_f q1563) rfl) <|
  xA0 (ok_iload_n (xdd xB_293 dX19_isOf_14) rfl rfl) <|
  xA1 (ok_iaload (xdd xB_293 dX19_isOf_15) rfl) <|
  xA0 (ok_iload_n (xdd xB_293 dX19_isOf_16) rfl rfl) <|
  xAB (ok_icmp_ne (xdd xB_293 dX19_isOf_17) rfl rfl) <|
  xA0 (ok_iconst (xdd xB_293 dX19_isOf_20) rfl rfl (xrg rfl)) <|
  xAR (ok_zreturn (xdd xB_293 dX19_isOf_21) rfl) <|
  xA1 (ok_iinc (xdd xB_293 dX19_isOf_22) rfl) <|
  xA0 (ok_goto (xdd xB_293 dX19_isOf_25) rfl) <|
  xA0 (ok_iconst (xdd xB_293 dX19_isOf_28) rfl rfl (xrg rfl)) <|
  xAR (ok_zreturn (xdd xB_293 dX19_isOf_29) rfl) <|
  xAe
theorem xe_293 {s0 : State} {A0 : Array Value} {D : va_G} {ta : Nat → ClassId} {l : Launch} : XAllC s0 A0 D ta l 293 xk_293 := ⟨xe_293_0, trivial⟩
theorem xe_294_0 {s0 : State} {A0 : Array Value} {D : va_G} {ta : Nat → ClassId} {l : Launch} : XAll s0 A0 D ta l 294 xk_294_0 :=
  xA0 (ok_aload_n (xdd xB_294 dX19_isTimed_0) rfl rfl) <|
  xA1 (ok_getA (xdd xB_294 dX19_isTimed_1) rfl (lk_f q1565) rfl) <|
  xA0 (ok_iload_n (xdd xB_294 dX19_isTimed_4) rfl rfl) <|
  xA1 (ok_iaload (xdd xB_294 dX19_isTimed_5) rfl) <|
  xA0 (ok_iconst (xdd xB_294 dX19_isTimed_6) rfl rfl (xrg rfl)) <|
  xAB (ok_icmp_eq (xdd xB_294 dX19_isTimed_7) rfl rfl) <|
  xA0 (ok_iconst (xdd xB_294 dX19_isTimed_10) rfl rfl (xrg rfl)) <|
  xA0 (ok_goto (xdd xB_294 dX19_isTimed_11) rfl) <|
  xA0 (ok_iconst (xdd xB_294 dX19_isTimed_14) rfl rfl (xrg rfl)) <|
  xAR (ok_zreturn (xdd xB_294 dX19_isTimed_15) rfl) <|
  xAe
theorem xe_294 {s0 : State} {A0 : Array Value} {D : va_G} {ta : Nat → ClassId} {l : Launch} : XAllC s0 A0 D ta l 294 xk_294 := ⟨xe_294_0, trivial⟩
theorem xe_295_0 {s0 : State} {A0 : Array Value} {D : va_G} {ta : Nat → ClassId} {l : Launch} : XAll s0 A0 D ta l 295 xk_295_0 :=
  xA0 (ok_aload_n (xdd xB_295 dX19_isHour_0) rfl rfl) <|
  xA0 (ok_iload_n (xdd xB_295 dX19_isHour_1) rfl rfl) <|
  xAK rfl (xC1 (ok_callV (xdd xB_295 dX19_isHour_2) rfl xq_15 rfl xp_294_1 q1868 q1788 q1789 q137 q1790) xC0) <|
  xAB (ok_if_eq (xdd xB_295 dX19_isHour_5) rfl rfl) <|
  xA0 (ok_iload_n (xdd xB_295 dX19_isHour_8) rfl rfl) <|
  xA0 (ok_bipush (xdd xB_295 dX19_isHour_9) rfl rfl (xrg rfl)) <|
  xA1 (ok_idiv (xdd xB_295 dX19_isHour_11) rfl) <|
  xA0 (ok_aload_n (xdd xB_295 dX19_isHour_12) rfl rfl) <|
  xA1 (ok_getA (xdd xB_295 dX19_isHour_13) rfl (lk_f q1565) rfl) <|
  xA0 (ok_iload_n (xdd xB_295 dX19_isHour_16) rfl rfl) <|
  xA1 (ok_iaload (xdd xB_295 dX19_isHour_17) rfl) <|
  xA0 (ok_aload_n (xdd xB_295 dX19_isHour_18) rfl rfl) <|
  xA1 (ok_getA (xdd xB_295 dX19_isHour_19) rfl (lk_f q1567) rfl) <|
  xA0 (ok_iload_n (xdd xB_295 dX19_isHour_22) rfl rfl) <|
  xA1 (ok_iaload (xdd xB_295 dX19_isHour_23) rfl) <|
  xAK rfl (xC1 (ok_callSN (xdd xB_295 dX19_isHour_24) rfl xp_156_3 q1869 q1728 q124 q1729) xC0) <|
  xAB (ok_if_eq (xdd xB_295 dX19_isHour_27) rfl rfl) <|
  xA0 (ok_iconst (xdd xB_295 dX19_isHour_30) rfl rfl (xrg rfl)) <|
  xA0 (ok_goto (xdd xB_295 dX19_isHour_31) rfl) <|
  xAe
theorem xe_295_1 {s0 : State} {A0 : Array Value} {D : va_G} {ta : Nat → ClassId} {l : Launch} : XAll s0 A0 D ta l 295 xk_295_1 :=
  xA0 (ok_iconst (xdd xB_295 dX19_isHour_34) rfl rfl (xrg rfl)) <|
  xAR (ok_zreturn (xdd xB_295 dX19_isHour_35) rfl) <|
  xAe
theorem xe_295 {s0 : State} {A0 : Array Value} {D : va_G} {ta : Nat → ClassId} {l : Launch} : XAllC s0 A0 D ta l 295 xk_295 := ⟨xe_295_0, xe_295_1, trivial⟩
theorem xe_296_0 {s0 : State} {A0 : Array Value} {D : va_G} {ta : Nat → ClassId} {l : Launch} : XAll s0 A0 D ta l 296 xk_296_0 :=
  xA0 (ok_iload_n (xdd xB_296 dX19_mayBe_0) rfl rfl) <|
  xA0 (ok_iload_n (xdd xB_296 dX19_mayBe_1) rfl rfl) <|
  xAB (ok_icmp_ne (xdd xB_296 dX19_mayBe_2) rfl rfl) <|
  xA0 (ok_iconst (xdd xB_296 dX19_mayBe_5) rfl rfl (xrg rfl)) <|
  xAR (ok_zreturn (xdd xB_296 dX19_mayBe_6) rfl) <|
  xA0 (ok_iconst (xdd xB_296 dX19_mayBe_7) rfl rfl (xrg rfl)) <|
  xA0 (ok_istore_n (xdd xB_296 dX19_mayBe_8) rfl rfl) <|
  xA0 (ok_iload_n (xdd xB_296 dX19_mayBe_9) rfl rfl) <|
  xA0 (ok_aload_n (xdd xB_296 dX19_mayBe_10) rfl rfl) <|
  xA1 (ok_getI (xdd xB_296 dX19_mayBe_11) rfl (lk_f q1551) (by decide)) <|
  xAB (ok_icmp_ge (xdd xB_296 dX19_mayBe_14) rfl rfl) <|
  xA0 (ok_aload_n (xdd xB_296 dX19_mayBe_17) rfl rfl) <|
  xA1 (ok_getA (xdd xB_296 dX19_mayBe_18) rfl (lk_f q1577) rfl) <|
  xA0 (ok_iload_n (xdd xB_296 dX19_mayBe_21) rfl rfl) <|
  xA1 (ok_iaload (xdd xB_296 dX19_mayBe_22) rfl) <|
  xA0 (ok_iload_n (xdd xB_296 dX19_mayBe_23) rfl rfl) <|
  xAB (ok_icmp_ne (xdd xB_296 dX19_mayBe_24) rfl rfl) <|
  xA0 (ok_aload_n (xdd xB_296 dX19_mayBe_27) rfl rfl) <|
  xA1 (ok_getA (xdd xB_296 dX19_mayBe_28) rfl (lk_f q1583) rfl) <|
  xA0 (ok_iload_n (xdd xB_296 dX19_mayBe_31) rfl rfl) <|
  xAe
theorem xe_296_1 {s0 : State} {A0 : Array Value} {D : va_G} {ta : Nat → ClassId} {l : Launch} : XAll s0 A0 D ta l 296 xk_296_1 :=
  xA1 (ok_laload (xdd xB_296 dX19_mayBe_32) rfl) <|
  xA0 (ok_aload_n (xdd xB_296 dX19_mayBe_33) rfl rfl) <|
  xA1 (ok_getA (xdd xB_296 dX19_mayBe_34) rfl (lk_f q1569) rfl) <|
  xA0 (ok_iload_n (xdd xB_296 dX19_mayBe_37) rfl rfl) <|
  xA1 (ok_laload (xdd xB_296 dX19_mayBe_38) rfl) <|
  xA0 (ok_lcmp (xdd xB_296 dX19_mayBe_39) rfl) <|
  xAB (ok_if_eq (xdd xB_296 dX19_mayBe_40) rfl rfl) <|
  xA0 (ok_iconst (xdd xB_296 dX19_mayBe_43) rfl rfl (xrg rfl)) <|
  xAR (ok_zreturn (xdd xB_296 dX19_mayBe_44) rfl) <|
  xA1 (ok_iinc (xdd xB_296 dX19_mayBe_45) rfl) <|
  xA0 (ok_goto (xdd xB_296 dX19_mayBe_48) rfl) <|
  xA0 (ok_iconst (xdd xB_296 dX19_mayBe_51) rfl rfl (xrg rfl)) <|
  xA0 (ok_istore_n (xdd xB_296 dX19_mayBe_52) rfl rfl) <|
  xA0 (ok_iload_n (xdd xB_296 dX19_mayBe_53) rfl rfl) <|
  xA0 (ok_aload_n (xdd xB_296 dX19_mayBe_54) rfl rfl) <|
  xA1 (ok_getI (xdd xB_296 dX19_mayBe_55) rfl (lk_f q1553) (by decide)) <|
  xAB (ok_icmp_ge (xdd xB_296 dX19_mayBe_58) rfl rfl) <|
  xA0 (ok_aload_n (xdd xB_296 dX19_mayBe_61) rfl rfl) <|
  xA1 (ok_getA (xdd xB_296 dX19_mayBe_62) rfl (lk_f q1579) rfl) <|
  xAe
theorem xe_296_2 {s0 : State} {A0 : Array Value} {D : va_G} {ta : Nat → ClassId} {l : Launch} : XAll s0 A0 D ta l 296 xk_296_2 :=
  xA0 (ok_iload_n (xdd xB_296 dX19_mayBe_65) rfl rfl) <|
  xA1 (ok_iaload (xdd xB_296 dX19_mayBe_66) rfl) <|
  xA0 (ok_iload_n (xdd xB_296 dX19_mayBe_67) rfl rfl) <|
  xAB (ok_icmp_ne (xdd xB_296 dX19_mayBe_68) rfl rfl) <|
  xA0 (ok_aload_n (xdd xB_296 dX19_mayBe_71) rfl rfl) <|
  xA1 (ok_getA (xdd xB_296 dX19_mayBe_72) rfl (lk_f q1581) rfl) <|
  xA0 (ok_iload_n (xdd xB_296 dX19_mayBe_75) rfl rfl) <|
  xA1 (ok_iaload (xdd xB_296 dX19_mayBe_76) rfl) <|
  xA0 (ok_aload_n (xdd xB_296 dX19_mayBe_77) rfl rfl) <|
  xA1 (ok_getA (xdd xB_296 dX19_mayBe_78) rfl (lk_f q1557) rfl) <|
  xA0 (ok_iload_n (xdd xB_296 dX19_mayBe_81) rfl rfl) <|
  xA1 (ok_iaload (xdd xB_296 dX19_mayBe_82) rfl) <|
  xAB (ok_icmp_le (xdd xB_296 dX19_mayBe_83) rfl rfl) <|
  xA0 (ok_iconst (xdd xB_296 dX19_mayBe_86) rfl rfl (xrg rfl)) <|
  xAR (ok_zreturn (xdd xB_296 dX19_mayBe_87) rfl) <|
  xA1 (ok_iinc (xdd xB_296 dX19_mayBe_88) rfl) <|
  xA0 (ok_goto (xdd xB_296 dX19_mayBe_91) rfl) <|
  xA0 (ok_iconst (xdd xB_296 dX19_mayBe_94) rfl rfl (xrg rfl)) <|
  xAR (ok_zreturn (xdd xB_296 dX19_mayBe_95) rfl) <|
  xAe
theorem xe_296 {s0 : State} {A0 : Array Value} {D : va_G} {ta : Nat → ClassId} {l : Launch} : XAllC s0 A0 D ta l 296 xk_296 := ⟨xe_296_0, xe_296_1, xe_296_2, trivial⟩
theorem xe_297_0 {s0 : State} {A0 : Array Value} {D : va_G} {ta : Nat → ClassId} {l : Launch} : XAll s0 A0 D ta l 297 xk_297_0 :=
  xA0 (ok_newo (xdd xB_297 dL_law_0) rfl xq_0 q141 q142 q111) <|
  xA0 (ok_dup (xdd xB_297 dL_law_3) rfl) <|
  xAK rfl (xC1 (ok_callI (xdd xB_297 dL_law_4) rfl xq_0 rfl rfl xp_1_0 q143 q144 q111 q145) xC0) <|
  xA0 (ok_astore_n (xdd xB_297 dL_law_7) rfl rfl) <|
  xA0 (ok_newo (xdd xB_297 dL_law_8) rfl xq_9 q1397 q1398 q124) <|
  xA0 (ok_dup (xdd xB_297 dL_law_11) rfl) <|
  xAK rfl (xC1 (ok_callI (xdd xB_297 dL_law_12) rfl xq_9 rfl rfl xp_138_0 q1399 q1400 q124 q1401) xC0) <|
  xA0 (ok_astore_n (xdd xB_297 dL_law_15) rfl rfl) <|
  xA0 (ok_iconst (xdd xB_297 dL_law_16) rfl rfl (xrg rfl)) <|
  xA1 (ok_new_long (xdd xB_297 dL_law_17) rfl) <|
  xA0 (ok_astore_n (xdd xB_297 dL_law_19) rfl rfl) <|
  xA0 (ok_iconst (xdd xB_297 dL_law_20) rfl rfl (xrg rfl)) <|
  xA0 (ok_istore (xdd xB_297 dL_law_21) rfl) <|
  xA0 (ok_iload (xdd xB_297 dL_law_23) rfl) <|
  xA0 (ok_aload_n (xdd xB_297 dL_law_25) rfl rfl) <|
  xA1 (ok_alen (xdd xB_297 dL_law_26) rfl) <|
  xA0 (ok_bipush (xdd xB_297 dL_law_27) rfl rfl (xrg rfl)) <|
  xA1 (ok_isub (xdd xB_297 dL_law_29) rfl) <|
  xAB (ok_icmp_gt (xdd xB_297 dL_law_30) rfl rfl) <|
  xAe
theorem xe_297_1 {s0 : State} {A0 : Array Value} {D : va_G} {ta : Nat → ClassId} {l : Launch} : XAll s0 A0 D ta l 297 xk_297_1 :=
  xA0 (ok_aload_n (xdd xB_297 dL_law_33) rfl rfl) <|
  xA0 (ok_iload (xdd xB_297 dL_law_34) rfl) <|
  xA1 (ok_iaload (xdd xB_297 dL_law_36) rfl) <|
  xA0 (ok_bipush (xdd xB_297 dL_law_37) rfl rfl (xrg rfl)) <|
  xA0 (ok_iand (xdd xB_297 dL_law_39) rfl) <|
  xA0 (ok_tsw (xdd xB_297 dL_law_40) rfl rfl rfl rfl (np := 0)) <|
  xAe
theorem xe_297_2 {s0 : State} {A0 : Array Value} {D : va_G} {ta : Nat → ClassId} {l : Launch} : XAll s0 A0 D ta l 297 xk_297_2 :=
  xAe
theorem xe_297_3 {s0 : State} {A0 : Array Value} {D : va_G} {ta : Nat → ClassId} {l : Launch} : XAll s0 A0 D ta l 297 xk_297_3 :=
  xAe
theorem xe_297_4 {s0 : State} {A0 : Array Value} {D : va_G} {ta : Nat → ClassId} {l : Launch} : XAll s0 A0 D ta l 297 xk_297_4 :=
  xAe
theorem xe_297_5 {s0 : State} {A0 : Array Value} {D : va_G} {ta : Nat → ClassId} {l : Launch} : XAll s0 A0 D ta l 297 xk_297_5 :=
  xAe
theorem xe_297_6 {s0 : State} {A0 : Array Value} {D : va_G} {ta : Nat → ClassId} {l : Launch} : XAll s0 A0 D ta l 297 xk_297_6 :=
  xAe
theorem xe_297_7 {s0 : State} {A0 : Array Value} {D : va_G} {ta : Nat → ClassId} {l : Launch} : XAll s0 A0 D ta l 297 xk_297_7 :=
  xA0 (ok_aload_n (xdd xB_297 dL_law_236) rfl rfl) <|
  xA0 (ok_aload_n (xdd xB_297 dL_law_237) rfl rfl) <|
  xA0 (ok_iload (xdd xB_297 dL_law_238) rfl) <|
  xA0 (ok_iconst (xdd xB_297 dL_law_240) rfl rfl (xrg rfl)) <|
  xA1 (ok_iadd (xdd xB_297 dL_law_241) rfl) <|
  xA1 (ok_iaload (xdd xB_297 dL_law_242) rfl) <|
  xA0 (ok_aload_n (xdd xB_297 dL_law_243) rfl rfl) <|
  xA0 (ok_iload (xdd xB_297 dL_law_244) rfl) <|
  xA0 (ok_iconst (xdd xB_297 dL_law_246) rfl rfl (xrg rfl)) <|
  xA1 (ok_iadd (xdd xB_297 dL_law_247) rfl) <|
  xA1 (ok_iaload (xdd xB_297 dL_law_248) rfl) <|
  xA0 (ok_aload_n (xdd xB_297 dL_law_249) rfl rfl) <|
  xA0 (ok_iload (xdd xB_297 dL_law_250) rfl) <|
  xA0 (ok_iconst (xdd xB_297 dL_law_252) rfl rfl (xrg rfl)) <|
  xA1 (ok_iadd (xdd xB_297 dL_law_253) rfl) <|
  xA1 (ok_iaload (xdd xB_297 dL_law_254) rfl) <|
  xA0 (ok_aload_n (xdd xB_297 dL_law_255) rfl rfl) <|
  xAe
theorem xe_297_8 {s0 : State} {A0 : Array Value} {D : va_G} {ta : Nat → ClassId} {l : Launch} : XAll s0 A0 D ta l 297 xk_297_8 :=
  xA0 (ok_iload (xdd xB_297 dL_law_256) rfl) <|
  xA0 (ok_iconst (xdd xB_297 dL_law_258) rfl rfl (xrg rfl)) <|
  xA1 (ok_iadd (xdd xB_297 dL_law_259) rfl) <|
  xA1 (ok_iaload (xdd xB_297 dL_law_260) rfl) <|
  xA0 (ok_aload_n (xdd xB_297 dL_law_261) rfl rfl) <|
  xA0 (ok_iload (xdd xB_297 dL_law_262) rfl) <|
  xA0 (ok_iconst (xdd xB_297 dL_law_264) rfl rfl (xrg rfl)) <|
  xA1 (ok_iadd (xdd xB_297 dL_law_265) rfl) <|
  xA1 (ok_iaload (xdd xB_297 dL_law_266) rfl) <|
  xAK rfl (xC1 (ok_callV (xdd xB_297 dL_law_267) rfl xq_0 rfl xp_2_5 q464 q465 q466 q111 q467) xC0) <|
  xA0 (ok_aload_n (xdd xB_297 dL_law_270) rfl rfl) <|
  xA0 (ok_aload_n (xdd xB_297 dL_law_271) rfl rfl) <|
  xA0 (ok_iload (xdd xB_297 dL_law_272) rfl) <|
  xA0 (ok_iconst (xdd xB_297 dL_law_274) rfl rfl (xrg rfl)) <|
  xA1 (ok_iadd (xdd xB_297 dL_law_275) rfl) <|
  xA1 (ok_iaload (xdd xB_297 dL_law_276) rfl) <|
  xA0 (ok_aload_n (xdd xB_297 dL_law_277) rfl rfl) <|
  xA0 (ok_iload (xdd xB_297 dL_law_278) rfl) <|
  xA0 (ok_iconst (xdd xB_297 dL_law_280) rfl rfl (xrg rfl)) <|
  xA1 (ok_iadd (xdd xB_297 dL_law_281) rfl) <|
  xA1 (ok_iaload (xdd xB_297 dL_law_282) rfl) <|
  xA0 (ok_aload_n (xdd xB_297 dL_law_283) rfl rfl) <|
  xA0 (ok_iload (xdd xB_297 dL_law_284) rfl) <|
  xA0 (ok_iconst (xdd xB_297 dL_law_286) rfl rfl (xrg rfl)) <|
  xA1 (ok_iadd (xdd xB_297 dL_law_287) rfl) <|
  xAe
theorem xe_297_9 {s0 : State} {A0 : Array Value} {D : va_G} {ta : Nat → ClassId} {l : Launch} : XAll s0 A0 D ta l 297 xk_297_9 :=
  xA1 (ok_iaload (xdd xB_297 dL_law_288) rfl) <|
  xA0 (ok_aload_n (xdd xB_297 dL_law_289) rfl rfl) <|
  xA0 (ok_iload (xdd xB_297 dL_law_290) rfl) <|
  xA0 (ok_iconst (xdd xB_297 dL_law_292) rfl rfl (xrg rfl)) <|
  xA1 (ok_iadd (xdd xB_297 dL_law_293) rfl) <|
  xA1 (ok_iaload (xdd xB_297 dL_law_294) rfl) <|
  xA0 (ok_aload_n (xdd xB_297 dL_law_295) rfl rfl) <|
  xA0 (ok_iload (xdd xB_297 dL_law_296) rfl) <|
  xA0 (ok_iconst (xdd xB_297 dL_law_298) rfl rfl (xrg rfl)) <|
  xA1 (ok_iadd (xdd xB_297 dL_law_299) rfl) <|
  xA1 (ok_iaload (xdd xB_297 dL_law_300) rfl) <|
  xAK rfl (xC1 (ok_callV (xdd xB_297 dL_law_301) rfl xq_9 rfl xp_140_5 q1525 q1526 q1527 q124 q1528) xC0) <|
  xAB (ok_icmp_eq (xdd xB_297 dL_law_304) rfl rfl) <|
  xA0 (ok_iconst (xdd xB_297 dL_law_307) rfl rfl (xrg rfl)) <|
  xAR (ok_zreturn (xdd xB_297 dL_law_308) rfl) <|
  xA0 (ok_aload_n (xdd xB_297 dL_law_309) rfl rfl) <|
  xA0 (ok_aload_n (xdd xB_297 dL_law_310) rfl rfl) <|
  xA0 (ok_iload (xdd xB_297 dL_law_311) rfl) <|
  xA0 (ok_iconst (xdd xB_297 dL_law_313) rfl rfl (xrg rfl)) <|
  xA1 (ok_iadd (xdd xB_297 dL_law_314) rfl) <|
  xA1 (ok_iaload (xdd xB_297 dL_law_315) rfl) <|
  xAK rfl (xC1 (ok_callVX (xdd xB_297 dL_law_316) rfl xq_0 rfl xp_4_1 q472 q473 q474 q111 q475) xC0) <|
  xA0 (ok_aload_n (xdd xB_297 dL_law_319) rfl rfl) <|
  xAe
theorem xe_297_10 {s0 : State} {A0 : Array Value} {D : va_G} {ta : Nat → ClassId} {l : Launch} : XAll s0 A0 D ta l 297 xk_297_10 :=
  xA0 (ok_aload_n (xdd xB_297 dL_law_320) rfl rfl) <|
  xA0 (ok_iload (xdd xB_297 dL_law_321) rfl) <|
  xA0 (ok_iconst (xdd xB_297 dL_law_323) rfl rfl (xrg rfl)) <|
  xA1 (ok_iadd (xdd xB_297 dL_law_324) rfl) <|
  xA1 (ok_iaload (xdd xB_297 dL_law_325) rfl) <|
  xAK rfl (xC1 (ok_callV (xdd xB_297 dL_law_326) rfl xq_9 rfl xp_141_1 q1529 q1530 q1531 q124 q1532) xC0) <|
  xAB (ok_icmp_eq (xdd xB_297 dL_law_329) rfl rfl) <|
  xA0 (ok_iconst (xdd xB_297 dL_law_332) rfl rfl (xrg rfl)) <|
  xAR (ok_zreturn (xdd xB_297 dL_law_333) rfl) <|
  xA0 (ok_aload_n (xdd xB_297 dL_law_334) rfl rfl) <|
  xAK rfl (xC1 (ok_callV (xdd xB_297 dL_law_335) rfl xq_0 rfl xp_8_0 q953 q954 q955 q111 q956) xC0) <|
  xA0 (ok_aload_n (xdd xB_297 dL_law_338) rfl rfl) <|
  xAK rfl (xC1 (ok_callV (xdd xB_297 dL_law_339) rfl xq_9 rfl xp_175_0 q1833 q1834 q1835 q124 q1836) xC0) <|
  xAB (ok_icmp_eq (xdd xB_297 dL_law_342) rfl rfl) <|
  xA0 (ok_iconst (xdd xB_297 dL_law_345) rfl rfl (xrg rfl)) <|
  xAR (ok_zreturn (xdd xB_297 dL_law_346) rfl) <|
  xA0 (ok_aload_n (xdd xB_297 dL_law_347) rfl rfl) <|
  xAK rfl (xC1 (ok_callV (xdd xB_297 dL_law_348) rfl xq_0 rfl xp_9_0 q957 q958 q959 q111 q960) xC0) <|
  xA0 (ok_aload_n (xdd xB_297 dL_law_351) rfl rfl) <|
  xAe
theorem xe_297_11 {s0 : State} {A0 : Array Value} {D : va_G} {ta : Nat → ClassId} {l : Launch} : XAll s0 A0 D ta l 297 xk_297_11 :=
  xAK rfl (xC1 (ok_callV (xdd xB_297 dL_law_352) rfl xq_9 rfl xp_176_0 q1837 q1838 q1839 q124 q1840) xC0) <|
  xAB (ok_icmp_eq (xdd xB_297 dL_law_355) rfl rfl) <|
  xA0 (ok_iconst (xdd xB_297 dL_law_358) rfl rfl (xrg rfl)) <|
  xAR (ok_zreturn (xdd xB_297 dL_law_359) rfl) <|
  xA0 (ok_aload_n (xdd xB_297 dL_law_360) rfl rfl) <|
  xA0 (ok_aload_n (xdd xB_297 dL_law_361) rfl rfl) <|
  xA0 (ok_iload (xdd xB_297 dL_law_362) rfl) <|
  xA0 (ok_iconst (xdd xB_297 dL_law_364) rfl rfl (xrg rfl)) <|
  xA1 (ok_iadd (xdd xB_297 dL_law_365) rfl) <|
  xA1 (ok_iaload (xdd xB_297 dL_law_366) rfl) <|
  xA0 (ok_aload_n (xdd xB_297 dL_law_367) rfl rfl) <|
  xA0 (ok_iload (xdd xB_297 dL_law_368) rfl) <|
  xA0 (ok_iconst (xdd xB_297 dL_law_370) rfl rfl (xrg rfl)) <|
  xA1 (ok_iadd (xdd xB_297 dL_law_371) rfl) <|
  xA1 (ok_iaload (xdd xB_297 dL_law_372) rfl) <|
  xAK rfl (xC1 (ok_callV (xdd xB_297 dL_law_373) rfl xq_0 rfl xp_10_2 q961 q962 q963 q111 q964) xC0) <|
  xA0 (ok_aload_n (xdd xB_297 dL_law_376) rfl rfl) <|
  xA0 (ok_aload_n (xdd xB_297 dL_law_377) rfl rfl) <|
  xA0 (ok_iload (xdd xB_297 dL_law_378) rfl) <|
  xA0 (ok_iconst (xdd xB_297 dL_law_380) rfl rfl (xrg rfl)) <|
  xA1 (ok_iadd (xdd xB_297 dL_law_381) rfl) <|
  xA1 (ok_iaload (xdd xB_297 dL_law_382) rfl) <|
  xA0 (ok_aload_n (xdd xB_297 dL_law_383) rfl rfl) <|
  xAe
theorem xe_297_12 {s0 : State} {A0 : Array Value} {D : va_G} {ta : Nat → ClassId} {l : Launch} : XAll s0 A0 D ta l 297 xk_297_12 :=
  xA0 (ok_iload (xdd xB_297 dL_law_384) rfl) <|
  xA0 (ok_iconst (xdd xB_297 dL_law_386) rfl rfl (xrg rfl)) <|
  xA1 (ok_iadd (xdd xB_297 dL_law_387) rfl) <|
  xA1 (ok_iaload (xdd xB_297 dL_law_388) rfl) <|
  xAK rfl (xC1 (ok_callV (xdd xB_297 dL_law_389) rfl xq_9 rfl xp_177_2 q1841 q1842 q1843 q124 q1844) xC0) <|
  xAB (ok_icmp_eq (xdd xB_297 dL_law_392) rfl rfl) <|
  xA0 (ok_iconst (xdd xB_297 dL_law_395) rfl rfl (xrg rfl)) <|
  xAR (ok_zreturn (xdd xB_297 dL_law_396) rfl) <|
  xA0 (ok_aload_n (xdd xB_297 dL_law_397) rfl rfl) <|
  xA0 (ok_aload_n (xdd xB_297 dL_law_398) rfl rfl) <|
  xA0 (ok_iload (xdd xB_297 dL_law_399) rfl) <|
  xA0 (ok_iconst (xdd xB_297 dL_law_401) rfl rfl (xrg rfl)) <|
  xA1 (ok_iadd (xdd xB_297 dL_law_402) rfl) <|
  xA1 (ok_iaload (xdd xB_297 dL_law_403) rfl) <|
  xA0 (ok_aload_n (xdd xB_297 dL_law_404) rfl rfl) <|
  xA0 (ok_iload (xdd xB_297 dL_law_405) rfl) <|
  xA0 (ok_iconst (xdd xB_297 dL_law_407) rfl rfl (xrg rfl)) <|
  xA1 (ok_iadd (xdd xB_297 dL_law_408) rfl) <|
  xA1 (ok_iaload (xdd xB_297 dL_law_409) rfl) <|
  xAK rfl (xC1 (ok_callV (xdd xB_297 dL_law_410) rfl xq_0 rfl xp_13_2 q976 q977 q978 q111 q979) xC0) <|
  xA0 (ok_aload_n (xdd xB_297 dL_law_413) rfl rfl) <|
  xA0 (ok_aload_n (xdd xB_297 dL_law_414) rfl rfl) <|
  xA0 (ok_iload (xdd xB_297 dL_law_415) rfl) <|
  xAe
theorem xe_297_13 {s0 : State} {A0 : Array Value} {D : va_G} {ta : Nat → ClassId} {l : Launch} : XAll s0 A0 D ta l 297 xk_297_13 :=
  xA0 (ok_iconst (xdd xB_297 dL_law_417) rfl rfl (xrg rfl)) <|
  xA1 (ok_iadd (xdd xB_297 dL_law_418) rfl) <|
  xA1 (ok_iaload (xdd xB_297 dL_law_419) rfl) <|
  xA0 (ok_aload_n (xdd xB_297 dL_law_420) rfl rfl) <|
  xA0 (ok_iload (xdd xB_297 dL_law_421) rfl) <|
  xA0 (ok_iconst (xdd xB_297 dL_law_423) rfl rfl (xrg rfl)) <|
  xA1 (ok_iadd (xdd xB_297 dL_law_424) rfl) <|
  xA1 (ok_iaload (xdd xB_297 dL_law_425) rfl) <|
  xAK rfl (xC1 (ok_callV (xdd xB_297 dL_law_426) rfl xq_9 rfl xp_181_2 q1856 q1857 q1858 q124 q1859) xC0) <|
  xAB (ok_icmp_eq (xdd xB_297 dL_law_429) rfl rfl) <|
  xA0 (ok_iconst (xdd xB_297 dL_law_432) rfl rfl (xrg rfl)) <|
  xAR (ok_zreturn (xdd xB_297 dL_law_433) rfl) <|
  xA0 (ok_aload_n (xdd xB_297 dL_law_434) rfl rfl) <|
  xA0 (ok_aload_n (xdd xB_297 dL_law_435) rfl rfl) <|
  xA0 (ok_iload (xdd xB_297 dL_law_436) rfl) <|
  xA0 (ok_iconst (xdd xB_297 dL_law_438) rfl rfl (xrg rfl)) <|
  xA1 (ok_iadd (xdd xB_297 dL_law_439) rfl) <|
  xA1 (ok_iaload (xdd xB_297 dL_law_440) rfl) <|
  xA0 (ok_aload_n (xdd xB_297 dL_law_441) rfl rfl) <|
  xA0 (ok_iload (xdd xB_297 dL_law_442) rfl) <|
  xA0 (ok_iconst (xdd xB_297 dL_law_444) rfl rfl (xrg rfl)) <|
  xA1 (ok_iadd (xdd xB_297 dL_law_445) rfl) <|
  xA1 (ok_iaload (xdd xB_297 dL_law_446) rfl) <|
  xAK rfl (xC1 (ok_callV (xdd xB_297 dL_law_447) rfl xq_0 rfl xp_15_2 q994 q995 q996 q111 q997) xC0) <|
  xAe
theorem xe_297_14 {s0 : State} {A0 : Array Value} {D : va_G} {ta : Nat → ClassId} {l : Launch} : XAll s0 A0 D ta l 297 xk_297_14 :=
  xA0 (ok_aload_n (xdd xB_297 dL_law_450) rfl rfl) <|
  xA0 (ok_aload_n (xdd xB_297 dL_law_451) rfl rfl) <|
  xA0 (ok_iload (xdd xB_297 dL_law_452) rfl) <|
  xA0 (ok_iconst (xdd xB_297 dL_law_454) rfl rfl (xrg rfl)) <|
  xA1 (ok_iadd (xdd xB_297 dL_law_455) rfl) <|
  xA1 (ok_iaload (xdd xB_297 dL_law_456) rfl) <|
  xA0 (ok_aload_n (xdd xB_297 dL_law_457) rfl rfl) <|
  xA0 (ok_iload (xdd xB_297 dL_law_458) rfl) <|
  xA0 (ok_iconst (xdd xB_297 dL_law_460) rfl rfl (xrg rfl)) <|
  xA1 (ok_iadd (xdd xB_297 dL_law_461) rfl) <|
  xA1 (ok_iaload (xdd xB_297 dL_law_462) rfl) <|
  xAK rfl (xC1 (ok_callV (xdd xB_297 dL_law_463) rfl xq_9 rfl xp_183_2 q1870 q1871 q1872 q124 q1873) xC0) <|
  xAB (ok_icmp_eq (xdd xB_297 dL_law_466) rfl rfl) <|
  xA0 (ok_iconst (xdd xB_297 dL_law_469) rfl rfl (xrg rfl)) <|
  xAR (ok_zreturn (xdd xB_297 dL_law_470) rfl) <|
  xA0 (ok_aload_n (xdd xB_297 dL_law_471) rfl rfl) <|
  xA0 (ok_aload_n (xdd xB_297 dL_law_472) rfl rfl) <|
  xA0 (ok_iload (xdd xB_297 dL_law_473) rfl) <|
  xA0 (ok_iconst (xdd xB_297 dL_law_475) rfl rfl (xrg rfl)) <|
  xA1 (ok_iadd (xdd xB_297 dL_law_476) rfl) <|
  xA1 (ok_iaload (xdd xB_297 dL_law_477) rfl) <|
  xA0 (ok_aload_n (xdd xB_297 dL_law_478) rfl rfl) <|
  xA0 (ok_iload (xdd xB_297 dL_law_479) rfl) <|
  xAe
theorem xe_297_15 {s0 : State} {A0 : Array Value} {D : va_G} {ta : Nat → ClassId} {l : Launch} : XAll s0 A0 D ta l 297 xk_297_15 :=
  xA0 (ok_iconst (xdd xB_297 dL_law_481) rfl rfl (xrg rfl)) <|
  xA1 (ok_iadd (xdd xB_297 dL_law_482) rfl) <|
  xA1 (ok_iaload (xdd xB_297 dL_law_483) rfl) <|
  xAK rfl (xC1 (ok_callV (xdd xB_297 dL_law_484) rfl xq_0 rfl xp_16_2 q999 q1000 q1001 q111 q1002) xC0) <|
  xA0 (ok_aload_n (xdd xB_297 dL_law_487) rfl rfl) <|
  xA0 (ok_aload_n (xdd xB_297 dL_law_488) rfl rfl) <|
  xA0 (ok_iload (xdd xB_297 dL_law_489) rfl) <|
  xA0 (ok_iconst (xdd xB_297 dL_law_491) rfl rfl (xrg rfl)) <|
  xA1 (ok_iadd (xdd xB_297 dL_law_492) rfl) <|
  xA1 (ok_iaload (xdd xB_297 dL_law_493) rfl) <|
  xA0 (ok_aload_n (xdd xB_297 dL_law_494) rfl rfl) <|
  xA0 (ok_iload (xdd xB_297 dL_law_495) rfl) <|
  xA0 (ok_iconst (xdd xB_297 dL_law_497) rfl rfl (xrg rfl)) <|
  xA1 (ok_iadd (xdd xB_297 dL_law_498) rfl) <|
  xA1 (ok_iaload (xdd xB_297 dL_law_499) rfl) <|
  xAK rfl (xC1 (ok_callV (xdd xB_297 dL_law_500) rfl xq_9 rfl xp_184_2 q1874 q1875 q1876 q124 q1877) xC0) <|
  xAB (ok_icmp_eq (xdd xB_297 dL_law_503) rfl rfl) <|
  xA0 (ok_iconst (xdd xB_297 dL_law_506) rfl rfl (xrg rfl)) <|
  xAR (ok_zreturn (xdd xB_297 dL_law_507) rfl) <|
  xA0 (ok_aload_n (xdd xB_297 dL_law_508) rfl rfl) <|
  xA0 (ok_aload_n (xdd xB_297 dL_law_509) rfl rfl) <|
  xA0 (ok_iload (xdd xB_297 dL_law_510) rfl) <|
  xAe
theorem xe_297_16 {s0 : State} {A0 : Array Value} {D : va_G} {ta : Nat → ClassId} {l : Launch} : XAll s0 A0 D ta l 297 xk_297_16 :=
  xA0 (ok_iconst (xdd xB_297 dL_law_512) rfl rfl (xrg rfl)) <|
  xA1 (ok_iadd (xdd xB_297 dL_law_513) rfl) <|
  xA1 (ok_iaload (xdd xB_297 dL_law_514) rfl) <|
  xAK rfl (xC1 (ok_callV (xdd xB_297 dL_law_515) rfl xq_0 rfl xp_18_1 q1007 q1008 q1009 q111 q1010) xC0) <|
  xA0 (ok_aload_n (xdd xB_297 dL_law_518) rfl rfl) <|
  xA0 (ok_aload_n (xdd xB_297 dL_law_519) rfl rfl) <|
  xA0 (ok_iload (xdd xB_297 dL_law_520) rfl) <|
  xA0 (ok_iconst (xdd xB_297 dL_law_522) rfl rfl (xrg rfl)) <|
  xA1 (ok_iadd (xdd xB_297 dL_law_523) rfl) <|
  xA1 (ok_iaload (xdd xB_297 dL_law_524) rfl) <|
  xAK rfl (xC1 (ok_callV (xdd xB_297 dL_law_525) rfl xq_9 rfl xp_186_1 q1882 q1883 q1884 q124 q1885) xC0) <|
  xAB (ok_icmp_eq (xdd xB_297 dL_law_528) rfl rfl) <|
  xA0 (ok_iconst (xdd xB_297 dL_law_531) rfl rfl (xrg rfl)) <|
  xAR (ok_zreturn (xdd xB_297 dL_law_532) rfl) <|
  xA0 (ok_aload_n (xdd xB_297 dL_law_533) rfl rfl) <|
  xA0 (ok_aload_n (xdd xB_297 dL_law_534) rfl rfl) <|
  xA0 (ok_iload (xdd xB_297 dL_law_535) rfl) <|
  xA0 (ok_iconst (xdd xB_297 dL_law_537) rfl rfl (xrg rfl)) <|
  xA1 (ok_iadd (xdd xB_297 dL_law_538) rfl) <|
  xA1 (ok_iaload (xdd xB_297 dL_law_539) rfl) <|
  xA0 (ok_aload_n (xdd xB_297 dL_law_540) rfl rfl) <|
  xA0 (ok_iload (xdd xB_297 dL_law_541) rfl) <|
  xA0 (ok_iconst (xdd xB_297 dL_law_543) rfl rfl (xrg rfl)) <|
  xAe
theorem xe_297_17 {s0 : State} {A0 : Array Value} {D : va_G} {ta : Nat → ClassId} {l : Launch} : XAll s0 A0 D ta l 297 xk_297_17 :=
  xA1 (ok_iadd (xdd xB_297 dL_law_544) rfl) <|
  xA1 (ok_iaload (xdd xB_297 dL_law_545) rfl) <|
  xAK rfl (xC1 (ok_callV (xdd xB_297 dL_law_546) rfl xq_0 rfl xp_20_2 q1015 q1016 q1017 q111 q1018) xC0) <|
  xA0 (ok_aload_n (xdd xB_297 dL_law_549) rfl rfl) <|
  xA0 (ok_aload_n (xdd xB_297 dL_law_550) rfl rfl) <|
  xA0 (ok_iload (xdd xB_297 dL_law_551) rfl) <|
  xA0 (ok_iconst (xdd xB_297 dL_law_553) rfl rfl (xrg rfl)) <|
  xA1 (ok_iadd (xdd xB_297 dL_law_554) rfl) <|
  xA1 (ok_iaload (xdd xB_297 dL_law_555) rfl) <|
  xA0 (ok_aload_n (xdd xB_297 dL_law_556) rfl rfl) <|
  xA0 (ok_iload (xdd xB_297 dL_law_557) rfl) <|
  xA0 (ok_iconst (xdd xB_297 dL_law_559) rfl rfl (xrg rfl)) <|
  xA1 (ok_iadd (xdd xB_297 dL_law_560) rfl) <|
  xA1 (ok_iaload (xdd xB_297 dL_law_561) rfl) <|
  xAK rfl (xC1 (ok_callV (xdd xB_297 dL_law_562) rfl xq_9 rfl xp_187_2 q1886 q1887 q1888 q124 q1889) xC0) <|
  xAB (ok_icmp_eq (xdd xB_297 dL_law_565) rfl rfl) <|
  xA0 (ok_iconst (xdd xB_297 dL_law_568) rfl rfl (xrg rfl)) <|
  xAR (ok_zreturn (xdd xB_297 dL_law_569) rfl) <|
  xA0 (ok_aload_n (xdd xB_297 dL_law_570) rfl rfl) <|
  xAK rfl (xC1 (ok_callV (xdd xB_297 dL_law_571) rfl xq_0 rfl xp_21_0 q1019 q1020 q1021 q111 q1022) xC0) <|
  xA0 (ok_aload_n (xdd xB_297 dL_law_574) rfl rfl) <|
  xAK rfl (xC1 (ok_callV (xdd xB_297 dL_law_575) rfl xq_9 rfl xp_188_0 q1890 q1891 q1892 q124 q1893) xC0) <|
  xAe
theorem xe_297_18 {s0 : State} {A0 : Array Value} {D : va_G} {ta : Nat → ClassId} {l : Launch} : XAll s0 A0 D ta l 297 xk_297_18 :=
  xAB (ok_icmp_eq (xdd xB_297 dL_law_578) rfl rfl) <|
  xA0 (ok_iconst (xdd xB_297 dL_law_581) rfl rfl (xrg rfl)) <|
  xAR (ok_zreturn (xdd xB_297 dL_law_582) rfl) <|
  xA0 (ok_aload_n (xdd xB_297 dL_law_583) rfl rfl) <|
  xAK rfl (xC1 (ok_callV (xdd xB_297 dL_law_584) rfl xq_0 rfl xp_22_0 q1031 q1032 q1033 q111 q1034) xC0) <|
  xA0 (ok_aload_n (xdd xB_297 dL_law_587) rfl rfl) <|
  xAK rfl (xC1 (ok_callV (xdd xB_297 dL_law_588) rfl xq_9 rfl xp_191_0 q1901 q1902 q1903 q124 q1904) xC0) <|
  xAB (ok_icmp_eq (xdd xB_297 dL_law_591) rfl rfl) <|
  xA0 (ok_iconst (xdd xB_297 dL_law_594) rfl rfl (xrg rfl)) <|
  xAR (ok_zreturn (xdd xB_297 dL_law_595) rfl) <|
  xA0 (ok_aload_n (xdd xB_297 dL_law_596) rfl rfl) <|
  xA0 (ok_aload_n (xdd xB_297 dL_law_597) rfl rfl) <|
  xA0 (ok_iload (xdd xB_297 dL_law_598) rfl) <|
  xA0 (ok_iconst (xdd xB_297 dL_law_600) rfl rfl (xrg rfl)) <|
  xA1 (ok_iadd (xdd xB_297 dL_law_601) rfl) <|
  xA1 (ok_iaload (xdd xB_297 dL_law_602) rfl) <|
  xA0 (ok_aload_n (xdd xB_297 dL_law_603) rfl rfl) <|
  xA0 (ok_iload (xdd xB_297 dL_law_604) rfl) <|
  xA0 (ok_iconst (xdd xB_297 dL_law_606) rfl rfl (xrg rfl)) <|
  xA1 (ok_iadd (xdd xB_297 dL_law_607) rfl) <|
  xAe
theorem xe_297_19 {s0 : State} {A0 : Array Value} {D : va_G} {ta : Nat → ClassId} {l : Launch} : XAll s0 A0 D ta l 297 xk_297_19 :=
  xA1 (ok_iaload (xdd xB_297 dL_law_608) rfl) <|
  xA0 (ok_aload_n (xdd xB_297 dL_law_609) rfl rfl) <|
  xA0 (ok_iload (xdd xB_297 dL_law_610) rfl) <|
  xA0 (ok_iconst (xdd xB_297 dL_law_612) rfl rfl (xrg rfl)) <|
  xA1 (ok_iadd (xdd xB_297 dL_law_613) rfl) <|
  xA1 (ok_iaload (xdd xB_297 dL_law_614) rfl) <|
  xAK rfl (xC1 (ok_callV (xdd xB_297 dL_law_615) rfl xq_0 rfl xp_23_3 q1047 q1048 q1049 q111 q1050) xC0) <|
  xA0 (ok_aload_n (xdd xB_297 dL_law_618) rfl rfl) <|
  xA0 (ok_aload_n (xdd xB_297 dL_law_619) rfl rfl) <|
  xA0 (ok_iload (xdd xB_297 dL_law_620) rfl) <|
  xA0 (ok_iconst (xdd xB_297 dL_law_622) rfl rfl (xrg rfl)) <|
  xA1 (ok_iadd (xdd xB_297 dL_law_623) rfl) <|
  xA1 (ok_iaload (xdd xB_297 dL_law_624) rfl) <|
  xA0 (ok_aload_n (xdd xB_297 dL_law_625) rfl rfl) <|
  xA0 (ok_iload (xdd xB_297 dL_law_626) rfl) <|
  xA0 (ok_iconst (xdd xB_297 dL_law_628) rfl rfl (xrg rfl)) <|
  xA1 (ok_iadd (xdd xB_297 dL_law_629) rfl) <|
  xA1 (ok_iaload (xdd xB_297 dL_law_630) rfl) <|
  xA0 (ok_aload_n (xdd xB_297 dL_law_631) rfl rfl) <|
  xA0 (ok_iload (xdd xB_297 dL_law_632) rfl) <|
  xA0 (ok_iconst (xdd xB_297 dL_law_634) rfl rfl (xrg rfl)) <|
  xA1 (ok_iadd (xdd xB_297 dL_law_635) rfl) <|
  xA1 (ok_iaload (xdd xB_297 dL_law_636) rfl) <|
  xAK rfl (xC1 (ok_callV (xdd xB_297 dL_law_637) rfl xq_9 rfl xp_192_3 q1905 q1906 q1907 q124 q1908) xC0) <|
  xAe
theorem xe_297_20 {s0 : State} {A0 : Array Value} {D : va_G} {ta : Nat → ClassId} {l : Launch} : XAll s0 A0 D ta l 297 xk_297_20 :=
  xAB (ok_icmp_eq (xdd xB_297 dL_law_640) rfl rfl) <|
  xA0 (ok_iconst (xdd xB_297 dL_law_643) rfl rfl (xrg rfl)) <|
  xAR (ok_zreturn (xdd xB_297 dL_law_644) rfl) <|
  xA0 (ok_aload_n (xdd xB_297 dL_law_645) rfl rfl) <|
  xA0 (ok_aload_n (xdd xB_297 dL_law_646) rfl rfl) <|
  xA0 (ok_iload (xdd xB_297 dL_law_647) rfl) <|
  xA0 (ok_iconst (xdd xB_297 dL_law_649) rfl rfl (xrg rfl)) <|
  xA1 (ok_iadd (xdd xB_297 dL_law_650) rfl) <|
  xA1 (ok_iaload (xdd xB_297 dL_law_651) rfl) <|
  xA0 (ok_aload_n (xdd xB_297 dL_law_652) rfl rfl) <|
  xA0 (ok_iload (xdd xB_297 dL_law_653) rfl) <|
  xA0 (ok_iconst (xdd xB_297 dL_law_655) rfl rfl (xrg rfl)) <|
  xA1 (ok_iadd (xdd xB_297 dL_law_656) rfl) <|
  xA1 (ok_iaload (xdd xB_297 dL_law_657) rfl) <|
  xA0 (ok_aload_n (xdd xB_297 dL_law_658) rfl rfl) <|
  xA0 (ok_iload (xdd xB_297 dL_law_659) rfl) <|
  xA0 (ok_iconst (xdd xB_297 dL_law_661) rfl rfl (xrg rfl)) <|
  xA1 (ok_iadd (xdd xB_297 dL_law_662) rfl) <|
  xA1 (ok_iaload (xdd xB_297 dL_law_663) rfl) <|
  xA0 (ok_aload_n (xdd xB_297 dL_law_664) rfl rfl) <|
  xA0 (ok_iload (xdd xB_297 dL_law_665) rfl) <|
  xA0 (ok_iconst (xdd xB_297 dL_law_667) rfl rfl (xrg rfl)) <|
  xA1 (ok_iadd (xdd xB_297 dL_law_668) rfl) <|
  xA1 (ok_iaload (xdd xB_297 dL_law_669) rfl) <|
  xAK rfl (xC1 (ok_callV (xdd xB_297 dL_law_670) rfl xq_0 rfl xp_26_4 q1093 q1094 q1095 q111 q1096) xC0) <|
  xAe
theorem xe_297_21 {s0 : State} {A0 : Array Value} {D : va_G} {ta : Nat → ClassId} {l : Launch} : XAll s0 A0 D ta l 297 xk_297_21 :=
  xA0 (ok_aload_n (xdd xB_297 dL_law_673) rfl rfl) <|
  xA0 (ok_aload_n (xdd xB_297 dL_law_674) rfl rfl) <|
  xA0 (ok_iload (xdd xB_297 dL_law_675) rfl) <|
  xA0 (ok_iconst (xdd xB_297 dL_law_677) rfl rfl (xrg rfl)) <|
  xA1 (ok_iadd (xdd xB_297 dL_law_678) rfl) <|
  xA1 (ok_iaload (xdd xB_297 dL_law_679) rfl) <|
  xA0 (ok_aload_n (xdd xB_297 dL_law_680) rfl rfl) <|
  xA0 (ok_iload (xdd xB_297 dL_law_681) rfl) <|
  xA0 (ok_iconst (xdd xB_297 dL_law_683) rfl rfl (xrg rfl)) <|
  xA1 (ok_iadd (xdd xB_297 dL_law_684) rfl) <|
  xA1 (ok_iaload (xdd xB_297 dL_law_685) rfl) <|
  xA0 (ok_aload_n (xdd xB_297 dL_law_686) rfl rfl) <|
  xA0 (ok_iload (xdd xB_297 dL_law_687) rfl) <|
  xA0 (ok_iconst (xdd xB_297 dL_law_689) rfl rfl (xrg rfl)) <|
  xA1 (ok_iadd (xdd xB_297 dL_law_690) rfl) <|
  xA1 (ok_iaload (xdd xB_297 dL_law_691) rfl) <|
  xA0 (ok_aload_n (xdd xB_297 dL_law_692) rfl rfl) <|
  xA0 (ok_iload (xdd xB_297 dL_law_693) rfl) <|
  xA0 (ok_iconst (xdd xB_297 dL_law_695) rfl rfl (xrg rfl)) <|
  xA1 (ok_iadd (xdd xB_297 dL_law_696) rfl) <|
  xA1 (ok_iaload (xdd xB_297 dL_law_697) rfl) <|
  xAK rfl (xC1 (ok_callV (xdd xB_297 dL_law_698) rfl xq_9 rfl xp_199_4 q1933 q1934 q1935 q124 q1936) xC0) <|
  xAB (ok_icmp_eq (xdd xB_297 dL_law_701) rfl rfl) <|
  xAe
theorem xe_297_22 {s0 : State} {A0 : Array Value} {D : va_G} {ta : Nat → ClassId} {l : Launch} : XAll s0 A0 D ta l 297 xk_297_22 :=
  xA0 (ok_iconst (xdd xB_297 dL_law_704) rfl rfl (xrg rfl)) <|
  xAR (ok_zreturn (xdd xB_297 dL_law_705) rfl) <|
  xA0 (ok_aload_n (xdd xB_297 dL_law_706) rfl rfl) <|
  xA0 (ok_aload_n (xdd xB_297 dL_law_707) rfl rfl) <|
  xA0 (ok_iload (xdd xB_297 dL_law_708) rfl) <|
  xA0 (ok_iconst (xdd xB_297 dL_law_710) rfl rfl (xrg rfl)) <|
  xA1 (ok_iadd (xdd xB_297 dL_law_711) rfl) <|
  xA1 (ok_iaload (xdd xB_297 dL_law_712) rfl) <|
  xA0 (ok_aload_n (xdd xB_297 dL_law_713) rfl rfl) <|
  xA0 (ok_iload (xdd xB_297 dL_law_714) rfl) <|
  xA0 (ok_iconst (xdd xB_297 dL_law_716) rfl rfl (xrg rfl)) <|
  xA1 (ok_iadd (xdd xB_297 dL_law_717) rfl) <|
  xA1 (ok_iaload (xdd xB_297 dL_law_718) rfl) <|
  xA0 (ok_aload_n (xdd xB_297 dL_law_719) rfl rfl) <|
  xA0 (ok_iload (xdd xB_297 dL_law_720) rfl) <|
  xA0 (ok_iconst (xdd xB_297 dL_law_722) rfl rfl (xrg rfl)) <|
  xA1 (ok_iadd (xdd xB_297 dL_law_723) rfl) <|
  xA1 (ok_iaload (xdd xB_297 dL_law_724) rfl) <|
  xAK rfl (xC1 (ok_callV (xdd xB_297 dL_law_725) rfl xq_0 rfl xp_27_3 q1105 q1106 q1107 q111 q1108) xC0) <|
  xA0 (ok_aload_n (xdd xB_297 dL_law_728) rfl rfl) <|
  xA0 (ok_aload_n (xdd xB_297 dL_law_729) rfl rfl) <|
  xA0 (ok_iload (xdd xB_297 dL_law_730) rfl) <|
  xA0 (ok_iconst (xdd xB_297 dL_law_732) rfl rfl (xrg rfl)) <|
  xA1 (ok_iadd (xdd xB_297 dL_law_733) rfl) <|
  xA1 (ok_iaload (xdd xB_297 dL_law_734) rfl) <|
  xA0 (ok_aload_n (xdd xB_297 dL_law_735) rfl rfl) <|
  xAe
theorem xe_297_23 {s0 : State} {A0 : Array Value} {D : va_G} {ta : Nat → ClassId} {l : Launch} : XAll s0 A0 D ta l 297 xk_297_23 :=
  xA0 (ok_iload (xdd xB_297 dL_law_736) rfl) <|
  xA0 (ok_iconst (xdd xB_297 dL_law_738) rfl rfl (xrg rfl)) <|
  xA1 (ok_iadd (xdd xB_297 dL_law_739) rfl) <|
  xA1 (ok_iaload (xdd xB_297 dL_law_740) rfl) <|
  xA0 (ok_aload_n (xdd xB_297 dL_law_741) rfl rfl) <|
  xA0 (ok_iload (xdd xB_297 dL_law_742) rfl) <|
  xA0 (ok_iconst (xdd xB_297 dL_law_744) rfl rfl (xrg rfl)) <|
  xA1 (ok_iadd (xdd xB_297 dL_law_745) rfl) <|
  xA1 (ok_iaload (xdd xB_297 dL_law_746) rfl) <|
  xAK rfl (xC1 (ok_callV (xdd xB_297 dL_law_747) rfl xq_9 rfl xp_200_3 q1937 q1938 q1939 q124 q1940) xC0) <|
  xAB (ok_icmp_eq (xdd xB_297 dL_law_750) rfl rfl) <|
  xA0 (ok_iconst (xdd xB_297 dL_law_753) rfl rfl (xrg rfl)) <|
  xAR (ok_zreturn (xdd xB_297 dL_law_754) rfl) <|
  xA0 (ok_aload_n (xdd xB_297 dL_law_755) rfl rfl) <|
  xA0 (ok_aload_n (xdd xB_297 dL_law_756) rfl rfl) <|
  xA0 (ok_iload (xdd xB_297 dL_law_757) rfl) <|
  xA0 (ok_iconst (xdd xB_297 dL_law_759) rfl rfl (xrg rfl)) <|
  xA1 (ok_iadd (xdd xB_297 dL_law_760) rfl) <|
  xA1 (ok_iaload (xdd xB_297 dL_law_761) rfl) <|
  xA0 (ok_aload_n (xdd xB_297 dL_law_762) rfl rfl) <|
  xA0 (ok_iload (xdd xB_297 dL_law_763) rfl) <|
  xA0 (ok_iconst (xdd xB_297 dL_law_765) rfl rfl (xrg rfl)) <|
  xA1 (ok_iadd (xdd xB_297 dL_law_766) rfl) <|
  xA1 (ok_iaload (xdd xB_297 dL_law_767) rfl) <|
  xAe
theorem xe_297_24 {s0 : State} {A0 : Array Value} {D : va_G} {ta : Nat → ClassId} {l : Launch} : XAll s0 A0 D ta l 297 xk_297_24 :=
  xAK rfl (xC1 (ok_callV (xdd xB_297 dL_law_768) rfl xq_0 rfl xp_28_2 q1109 q1110 q1111 q111 q1112) xC0) <|
  xA0 (ok_aload_n (xdd xB_297 dL_law_771) rfl rfl) <|
  xA0 (ok_aload_n (xdd xB_297 dL_law_772) rfl rfl) <|
  xA0 (ok_iload (xdd xB_297 dL_law_773) rfl) <|
  xA0 (ok_iconst (xdd xB_297 dL_law_775) rfl rfl (xrg rfl)) <|
  xA1 (ok_iadd (xdd xB_297 dL_law_776) rfl) <|
  xA1 (ok_iaload (xdd xB_297 dL_law_777) rfl) <|
  xA0 (ok_aload_n (xdd xB_297 dL_law_778) rfl rfl) <|
  xA0 (ok_iload (xdd xB_297 dL_law_779) rfl) <|
  xA0 (ok_iconst (xdd xB_297 dL_law_781) rfl rfl (xrg rfl)) <|
  xA1 (ok_iadd (xdd xB_297 dL_law_782) rfl) <|
  xA1 (ok_iaload (xdd xB_297 dL_law_783) rfl) <|
  xAK rfl (xC1 (ok_callV (xdd xB_297 dL_law_784) rfl xq_9 rfl xp_201_2 q1941 q1942 q1943 q124 q1944) xC0) <|
  xAB (ok_icmp_eq (xdd xB_297 dL_law_787) rfl rfl) <|
  xA0 (ok_iconst (xdd xB_297 dL_law_790) rfl rfl (xrg rfl)) <|
  xAR (ok_zreturn (xdd xB_297 dL_law_791) rfl) <|
  xA0 (ok_aload_n (xdd xB_297 dL_law_792) rfl rfl) <|
  xA0 (ok_aload_n (xdd xB_297 dL_law_793) rfl rfl) <|
  xA0 (ok_iload (xdd xB_297 dL_law_794) rfl) <|
  xA0 (ok_iconst (xdd xB_297 dL_law_796) rfl rfl (xrg rfl)) <|
  xA1 (ok_iadd (xdd xB_297 dL_law_797) rfl) <|
  xA1 (ok_iaload (xdd xB_297 dL_law_798) rfl) <|
  xAK rfl (xC1 (ok_callV (xdd xB_297 dL_law_799) rfl xq_0 rfl xp_29_1 q1113 q1114 q1115 q111 q1116) xC0) <|
  xAe
theorem xe_297_25 {s0 : State} {A0 : Array Value} {D : va_G} {ta : Nat → ClassId} {l : Launch} : XAll s0 A0 D ta l 297 xk_297_25 :=
  xA0 (ok_aload_n (xdd xB_297 dL_law_802) rfl rfl) <|
  xA0 (ok_aload_n (xdd xB_297 dL_law_803) rfl rfl) <|
  xA0 (ok_iload (xdd xB_297 dL_law_804) rfl) <|
  xA0 (ok_iconst (xdd xB_297 dL_law_806) rfl rfl (xrg rfl)) <|
  xA1 (ok_iadd (xdd xB_297 dL_law_807) rfl) <|
  xA1 (ok_iaload (xdd xB_297 dL_law_808) rfl) <|
  xAK rfl (xC1 (ok_callV (xdd xB_297 dL_law_809) rfl xq_9 rfl xp_202_1 q1945 q1946 q1947 q124 q1948) xC0) <|
  xAB (ok_icmp_eq (xdd xB_297 dL_law_812) rfl rfl) <|
  xA0 (ok_iconst (xdd xB_297 dL_law_815) rfl rfl (xrg rfl)) <|
  xAR (ok_zreturn (xdd xB_297 dL_law_816) rfl) <|
  xA0 (ok_aload_n (xdd xB_297 dL_law_817) rfl rfl) <|
  xAK rfl (xC1 (ok_callV (xdd xB_297 dL_law_818) rfl xq_0 rfl xp_30_0 q1117 q1118 q1119 q111 q1120) xC0) <|
  xA0 (ok_aload_n (xdd xB_297 dL_law_821) rfl rfl) <|
  xAK rfl (xC1 (ok_callV (xdd xB_297 dL_law_822) rfl xq_9 rfl xp_203_0 q1949 q1950 q1951 q124 q1952) xC0) <|
  xAB (ok_icmp_eq (xdd xB_297 dL_law_825) rfl rfl) <|
  xA0 (ok_iconst (xdd xB_297 dL_law_828) rfl rfl (xrg rfl)) <|
  xAR (ok_zreturn (xdd xB_297 dL_law_829) rfl) <|
  xA0 (ok_aload_n (xdd xB_297 dL_law_830) rfl rfl) <|
  xA0 (ok_aload_n (xdd xB_297 dL_law_831) rfl rfl) <|
  xAe
theorem xe_297_26 {s0 : State} {A0 : Array Value} {D : va_G} {ta : Nat → ClassId} {l : Launch} : XAll s0 A0 D ta l 297 xk_297_26 :=
  xA0 (ok_iload (xdd xB_297 dL_law_832) rfl) <|
  xA0 (ok_iconst (xdd xB_297 dL_law_834) rfl rfl (xrg rfl)) <|
  xA1 (ok_iadd (xdd xB_297 dL_law_835) rfl) <|
  xA1 (ok_iaload (xdd xB_297 dL_law_836) rfl) <|
  xAK rfl (xC1 (ok_callV (xdd xB_297 dL_law_837) rfl xq_0 rfl xp_31_1 q1141 q1142 q1143 q111 q1144) xC0) <|
  xA0 (ok_aload_n (xdd xB_297 dL_law_840) rfl rfl) <|
  xA0 (ok_aload_n (xdd xB_297 dL_law_841) rfl rfl) <|
  xA0 (ok_iload (xdd xB_297 dL_law_842) rfl) <|
  xA0 (ok_iconst (xdd xB_297 dL_law_844) rfl rfl (xrg rfl)) <|
  xA1 (ok_iadd (xdd xB_297 dL_law_845) rfl) <|
  xA1 (ok_iaload (xdd xB_297 dL_law_846) rfl) <|
  xAK rfl (xC1 (ok_callV (xdd xB_297 dL_law_847) rfl xq_9 rfl xp_207_1 q1969 q1970 q1971 q124 q1972) xC0) <|
  xAB (ok_icmp_eq (xdd xB_297 dL_law_850) rfl rfl) <|
  xA0 (ok_iconst (xdd xB_297 dL_law_853) rfl rfl (xrg rfl)) <|
  xAR (ok_zreturn (xdd xB_297 dL_law_854) rfl) <|
  xA0 (ok_aload_n (xdd xB_297 dL_law_855) rfl rfl) <|
  xA0 (ok_aload_n (xdd xB_297 dL_law_856) rfl rfl) <|
  xA0 (ok_iload (xdd xB_297 dL_law_857) rfl) <|
  xA0 (ok_iconst (xdd xB_297 dL_law_859) rfl rfl (xrg rfl)) <|
  xA1 (ok_iadd (xdd xB_297 dL_law_860) rfl) <|
  xA1 (ok_iaload (xdd xB_297 dL_law_861) rfl) <|
  xAK rfl (xC1 (ok_callV (xdd xB_297 dL_law_862) rfl xq_0 rfl xp_32_1 q1149 q1150 q1151 q111 q1152) xC0) <|
  xAe
theorem xe_297_27 {s0 : State} {A0 : Array Value} {D : va_G} {ta : Nat → ClassId} {l : Launch} : XAll s0 A0 D ta l 297 xk_297_27 :=
  xA0 (ok_aload_n (xdd xB_297 dL_law_865) rfl rfl) <|
  xA0 (ok_aload_n (xdd xB_297 dL_law_866) rfl rfl) <|
  xA0 (ok_iload (xdd xB_297 dL_law_867) rfl) <|
  xA0 (ok_iconst (xdd xB_297 dL_law_869) rfl rfl (xrg rfl)) <|
  xA1 (ok_iadd (xdd xB_297 dL_law_870) rfl) <|
  xA1 (ok_iaload (xdd xB_297 dL_law_871) rfl) <|
  xAK rfl (xC1 (ok_callV (xdd xB_297 dL_law_872) rfl xq_9 rfl xp_208_1 q1973 q1974 q1975 q124 q1976) xC0) <|
  xAB (ok_icmp_eq (xdd xB_297 dL_law_875) rfl rfl) <|
  xA0 (ok_iconst (xdd xB_297 dL_law_878) rfl rfl (xrg rfl)) <|
  xAR (ok_zreturn (xdd xB_297 dL_law_879) rfl) <|
  xA0 (ok_aload_n (xdd xB_297 dL_law_880) rfl rfl) <|
  xA0 (ok_aload_n (xdd xB_297 dL_law_881) rfl rfl) <|
  xA0 (ok_iload (xdd xB_297 dL_law_882) rfl) <|
  xA0 (ok_iconst (xdd xB_297 dL_law_884) rfl rfl (xrg rfl)) <|
  xA1 (ok_iadd (xdd xB_297 dL_law_885) rfl) <|
  xA1 (ok_iaload (xdd xB_297 dL_law_886) rfl) <|
  xAK rfl (xC1 (ok_callV (xdd xB_297 dL_law_887) rfl xq_0 rfl xp_33_1 q1157 q1158 q1159 q111 q1160) xC0) <|
  xA0 (ok_aload_n (xdd xB_297 dL_law_890) rfl rfl) <|
  xA0 (ok_aload_n (xdd xB_297 dL_law_891) rfl rfl) <|
  xA0 (ok_iload (xdd xB_297 dL_law_892) rfl) <|
  xA0 (ok_iconst (xdd xB_297 dL_law_894) rfl rfl (xrg rfl)) <|
  xA1 (ok_iadd (xdd xB_297 dL_law_895) rfl) <|
  xAe
theorem xe_297_28 {s0 : State} {A0 : Array Value} {D : va_G} {ta : Nat → ClassId} {l : Launch} : XAll s0 A0 D ta l 297 xk_297_28 :=
  xA1 (ok_iaload (xdd xB_297 dL_law_896) rfl) <|
  xAK rfl (xC1 (ok_callV (xdd xB_297 dL_law_897) rfl xq_9 rfl xp_209_1 q1977 q1978 q1979 q124 q1980) xC0) <|
  xAB (ok_icmp_eq (xdd xB_297 dL_law_900) rfl rfl) <|
  xA0 (ok_iconst (xdd xB_297 dL_law_903) rfl rfl (xrg rfl)) <|
  xAR (ok_zreturn (xdd xB_297 dL_law_904) rfl) <|
  xA0 (ok_aload_n (xdd xB_297 dL_law_905) rfl rfl) <|
  xAK rfl (xC1 (ok_callV (xdd xB_297 dL_law_906) rfl xq_0 rfl xp_34_0 q1165 q1166 q1167 q111 q1168) xC0) <|
  xA0 (ok_aload_n (xdd xB_297 dL_law_909) rfl rfl) <|
  xAK rfl (xC1 (ok_callV (xdd xB_297 dL_law_910) rfl xq_9 rfl xp_210_0 q1981 q1982 q1983 q124 q1984) xC0) <|
  xAB (ok_icmp_eq (xdd xB_297 dL_law_913) rfl rfl) <|
  xA0 (ok_iconst (xdd xB_297 dL_law_916) rfl rfl (xrg rfl)) <|
  xAR (ok_zreturn (xdd xB_297 dL_law_917) rfl) <|
  xA0 (ok_aload_n (xdd xB_297 dL_law_918) rfl rfl) <|
  xAK rfl (xC1 (ok_callV (xdd xB_297 dL_law_919) rfl xq_0 rfl xp_36_0 q1180 q1181 q1182 q111 q1183) xC0) <|
  xA0 (ok_aload_n (xdd xB_297 dL_law_922) rfl rfl) <|
  xAK rfl (xC1 (ok_callV (xdd xB_297 dL_law_923) rfl xq_9 rfl xp_212_0 q1989 q1990 q1991 q124 q1992) xC0) <|
  xAB (ok_icmp_eq (xdd xB_297 dL_law_926) rfl rfl) <|
  xAe
theorem xe_297_29 {s0 : State} {A0 : Array Value} {D : va_G} {ta : Nat → ClassId} {l : Launch} : XAll s0 A0 D ta l 297 xk_297_29 :=
  xA0 (ok_iconst (xdd xB_297 dL_law_929) rfl rfl (xrg rfl)) <|
  xAR (ok_zreturn (xdd xB_297 dL_law_930) rfl) <|
  xA0 (ok_aload_n (xdd xB_297 dL_law_931) rfl rfl) <|
  xA0 (ok_aload_n (xdd xB_297 dL_law_932) rfl rfl) <|
  xA0 (ok_iload (xdd xB_297 dL_law_933) rfl) <|
  xA0 (ok_iconst (xdd xB_297 dL_law_935) rfl rfl (xrg rfl)) <|
  xA1 (ok_iadd (xdd xB_297 dL_law_936) rfl) <|
  xA1 (ok_iaload (xdd xB_297 dL_law_937) rfl) <|
  xA0 (ok_aload_n (xdd xB_297 dL_law_938) rfl rfl) <|
  xA0 (ok_iload (xdd xB_297 dL_law_939) rfl) <|
  xA0 (ok_iconst (xdd xB_297 dL_law_941) rfl rfl (xrg rfl)) <|
  xA1 (ok_iadd (xdd xB_297 dL_law_942) rfl) <|
  xA1 (ok_iaload (xdd xB_297 dL_law_943) rfl) <|
  xAB (ok_if_eq (xdd xB_297 dL_law_944) rfl rfl) <|
  xA0 (ok_iconst (xdd xB_297 dL_law_947) rfl rfl (xrg rfl)) <|
  xA0 (ok_goto (xdd xB_297 dL_law_948) rfl) <|
  xA0 (ok_iconst (xdd xB_297 dL_law_951) rfl rfl (xrg rfl)) <|
  xAK rfl (xC1 (ok_callV (xdd xB_297 dL_law_952) rfl xq_0 rfl xp_37_2 q1184 q1185 q1186 q111 q1187) xC0) <|
  xA0 (ok_aload_n (xdd xB_297 dL_law_955) rfl rfl) <|
  xA0 (ok_aload_n (xdd xB_297 dL_law_956) rfl rfl) <|
  xA0 (ok_iload (xdd xB_297 dL_law_957) rfl) <|
  xA0 (ok_iconst (xdd xB_297 dL_law_959) rfl rfl (xrg rfl)) <|
  xAe
theorem xe_297_30 {s0 : State} {A0 : Array Value} {D : va_G} {ta : Nat → ClassId} {l : Launch} : XAll s0 A0 D ta l 297 xk_297_30 :=
  xA1 (ok_iadd (xdd xB_297 dL_law_960) rfl) <|
  xA1 (ok_iaload (xdd xB_297 dL_law_961) rfl) <|
  xA0 (ok_aload_n (xdd xB_297 dL_law_962) rfl rfl) <|
  xA0 (ok_iload (xdd xB_297 dL_law_963) rfl) <|
  xA0 (ok_iconst (xdd xB_297 dL_law_965) rfl rfl (xrg rfl)) <|
  xA1 (ok_iadd (xdd xB_297 dL_law_966) rfl) <|
  xA1 (ok_iaload (xdd xB_297 dL_law_967) rfl) <|
  xAB (ok_if_eq (xdd xB_297 dL_law_968) rfl rfl) <|
  xA0 (ok_iconst (xdd xB_297 dL_law_971) rfl rfl (xrg rfl)) <|
  xA0 (ok_goto (xdd xB_297 dL_law_972) rfl) <|
  xA0 (ok_iconst (xdd xB_297 dL_law_975) rfl rfl (xrg rfl)) <|
  xAK rfl (xC1 (ok_callV (xdd xB_297 dL_law_976) rfl xq_9 rfl xp_213_2 q1993 q1994 q1995 q124 q1996) xC0) <|
  xA0 (ok_lcmp (xdd xB_297 dL_law_979) rfl) <|
  xAB (ok_if_eq (xdd xB_297 dL_law_980) rfl rfl) <|
  xA0 (ok_iconst (xdd xB_297 dL_law_983) rfl rfl (xrg rfl)) <|
  xAR (ok_zreturn (xdd xB_297 dL_law_984) rfl) <|
  xA0 (ok_aload_n (xdd xB_297 dL_law_985) rfl rfl) <|
  xA0 (ok_aload_n (xdd xB_297 dL_law_986) rfl rfl) <|
  xA0 (ok_iload (xdd xB_297 dL_law_987) rfl) <|
  xA0 (ok_iconst (xdd xB_297 dL_law_989) rfl rfl (xrg rfl)) <|
  xA1 (ok_iadd (xdd xB_297 dL_law_990) rfl) <|
  xA1 (ok_iaload (xdd xB_297 dL_law_991) rfl) <|
  xAe
theorem xe_297_31 {s0 : State} {A0 : Array Value} {D : va_G} {ta : Nat → ClassId} {l : Launch} : XAll s0 A0 D ta l 297 xk_297_31 :=
  xA0 (ok_aload_n (xdd xB_297 dL_law_992) rfl rfl) <|
  xA0 (ok_iload (xdd xB_297 dL_law_993) rfl) <|
  xA0 (ok_iconst (xdd xB_297 dL_law_995) rfl rfl (xrg rfl)) <|
  xA1 (ok_iadd (xdd xB_297 dL_law_996) rfl) <|
  xA1 (ok_iaload (xdd xB_297 dL_law_997) rfl) <|
  xAB (ok_if_eq (xdd xB_297 dL_law_998) rfl rfl) <|
  xA0 (ok_iconst (xdd xB_297 dL_law_1001) rfl rfl (xrg rfl)) <|
  xA0 (ok_goto (xdd xB_297 dL_law_1002) rfl) <|
  xA0 (ok_iconst (xdd xB_297 dL_law_1005) rfl rfl (xrg rfl)) <|
  xAK rfl (xC1 (ok_callV (xdd xB_297 dL_law_1006) rfl xq_0 rfl xp_41_2 q1201 q1202 q1203 q111 q1204) xC0) <|
  xA0 (ok_aload_n (xdd xB_297 dL_law_1009) rfl rfl) <|
  xA0 (ok_aload_n (xdd xB_297 dL_law_1010) rfl rfl) <|
  xA0 (ok_iload (xdd xB_297 dL_law_1011) rfl) <|
  xA0 (ok_iconst (xdd xB_297 dL_law_1013) rfl rfl (xrg rfl)) <|
  xA1 (ok_iadd (xdd xB_297 dL_law_1014) rfl) <|
  xA1 (ok_iaload (xdd xB_297 dL_law_1015) rfl) <|
  xA0 (ok_aload_n (xdd xB_297 dL_law_1016) rfl rfl) <|
  xA0 (ok_iload (xdd xB_297 dL_law_1017) rfl) <|
  xA0 (ok_iconst (xdd xB_297 dL_law_1019) rfl rfl (xrg rfl)) <|
  xA1 (ok_iadd (xdd xB_297 dL_law_1020) rfl) <|
  xA1 (ok_iaload (xdd xB_297 dL_law_1021) rfl) <|
  xAB (ok_if_eq (xdd xB_297 dL_law_1022) rfl rfl) <|
  xAe
theorem xe_297_32 {s0 : State} {A0 : Array Value} {D : va_G} {ta : Nat → ClassId} {l : Launch} : XAll s0 A0 D ta l 297 xk_297_32 :=
  xA0 (ok_iconst (xdd xB_297 dL_law_1025) rfl rfl (xrg rfl)) <|
  xA0 (ok_goto (xdd xB_297 dL_law_1026) rfl) <|
  xA0 (ok_iconst (xdd xB_297 dL_law_1029) rfl rfl (xrg rfl)) <|
  xAK rfl (xC1 (ok_callV (xdd xB_297 dL_law_1030) rfl xq_9 rfl xp_218_2 q2012 q2013 q2014 q124 q2015) xC0) <|
  xA0 (ok_lcmp (xdd xB_297 dL_law_1033) rfl) <|
  xAB (ok_if_eq (xdd xB_297 dL_law_1034) rfl rfl) <|
  xA0 (ok_iconst (xdd xB_297 dL_law_1037) rfl rfl (xrg rfl)) <|
  xAR (ok_zreturn (xdd xB_297 dL_law_1038) rfl) <|
  xA0 (ok_aload_n (xdd xB_297 dL_law_1039) rfl rfl) <|
  xAK rfl (xC1 (ok_callV (xdd xB_297 dL_law_1040) rfl xq_0 rfl xp_42_0 q1206 q1207 q1208 q111 q1209) xC0) <|
  xA0 (ok_aload_n (xdd xB_297 dL_law_1043) rfl rfl) <|
  xAK rfl (xC1 (ok_callV (xdd xB_297 dL_law_1044) rfl xq_9 rfl xp_219_0 q2017 q2018 q2019 q124 q2020) xC0) <|
  xAB (ok_icmp_eq (xdd xB_297 dL_law_1047) rfl rfl) <|
  xA0 (ok_iconst (xdd xB_297 dL_law_1050) rfl rfl (xrg rfl)) <|
  xAR (ok_zreturn (xdd xB_297 dL_law_1051) rfl) <|
  xA0 (ok_aload_n (xdd xB_297 dL_law_1052) rfl rfl) <|
  xAK rfl (xC1 (ok_callV (xdd xB_297 dL_law_1053) rfl xq_0 rfl xp_43_0 q1210 q1211 q1212 q111 q1213) xC0) <|
  xAe
theorem xe_297_33 {s0 : State} {A0 : Array Value} {D : va_G} {ta : Nat → ClassId} {l : Launch} : XAll s0 A0 D ta l 297 xk_297_33 :=
  xA0 (ok_aload_n (xdd xB_297 dL_law_1056) rfl rfl) <|
  xAK rfl (xC1 (ok_callV (xdd xB_297 dL_law_1057) rfl xq_9 rfl xp_220_0 q2021 q2022 q2023 q124 q2024) xC0) <|
  xAB (ok_icmp_eq (xdd xB_297 dL_law_1060) rfl rfl) <|
  xA0 (ok_iconst (xdd xB_297 dL_law_1063) rfl rfl (xrg rfl)) <|
  xAR (ok_zreturn (xdd xB_297 dL_law_1064) rfl) <|
  xA0 (ok_aload_n (xdd xB_297 dL_law_1065) rfl rfl) <|
  xAK rfl (xC1 (ok_callV (xdd xB_297 dL_law_1066) rfl xq_0 rfl xp_45_0 q1240 q1241 q1242 q111 q1243) xC0) <|
  xA0 (ok_aload_n (xdd xB_297 dL_law_1069) rfl rfl) <|
  xAK rfl (xC1 (ok_callV (xdd xB_297 dL_law_1070) rfl xq_9 rfl xp_228_0 q2050 q2051 q2052 q124 q2053) xC0) <|
  xAB (ok_icmp_eq (xdd xB_297 dL_law_1073) rfl rfl) <|
  xA0 (ok_iconst (xdd xB_297 dL_law_1076) rfl rfl (xrg rfl)) <|
  xAR (ok_zreturn (xdd xB_297 dL_law_1077) rfl) <|
  xA0 (ok_aload_n (xdd xB_297 dL_law_1078) rfl rfl) <|
  xA0 (ok_aload_n (xdd xB_297 dL_law_1079) rfl rfl) <|
  xA0 (ok_iload (xdd xB_297 dL_law_1080) rfl) <|
  xA0 (ok_iconst (xdd xB_297 dL_law_1082) rfl rfl (xrg rfl)) <|
  xA1 (ok_iadd (xdd xB_297 dL_law_1083) rfl) <|
  xA1 (ok_iaload (xdd xB_297 dL_law_1084) rfl) <|
  xAK rfl (xC1 (ok_callV (xdd xB_297 dL_law_1085) rfl xq_0 rfl xp_46_1 q1244 q1245 q1246 q111 q1247) xC0) <|
  xAe
theorem xe_297_34 {s0 : State} {A0 : Array Value} {D : va_G} {ta : Nat → ClassId} {l : Launch} : XAll s0 A0 D ta l 297 xk_297_34 :=
  xA0 (ok_aload_n (xdd xB_297 dL_law_1088) rfl rfl) <|
  xA0 (ok_aload_n (xdd xB_297 dL_law_1089) rfl rfl) <|
  xA0 (ok_iload (xdd xB_297 dL_law_1090) rfl) <|
  xA0 (ok_iconst (xdd xB_297 dL_law_1092) rfl rfl (xrg rfl)) <|
  xA1 (ok_iadd (xdd xB_297 dL_law_1093) rfl) <|
  xA1 (ok_iaload (xdd xB_297 dL_law_1094) rfl) <|
  xAK rfl (xC1 (ok_callV (xdd xB_297 dL_law_1095) rfl xq_9 rfl xp_229_1 q2054 q2055 q2056 q124 q2057) xC0) <|
  xAB (ok_icmp_eq (xdd xB_297 dL_law_1098) rfl rfl) <|
  xA0 (ok_iconst (xdd xB_297 dL_law_1101) rfl rfl (xrg rfl)) <|
  xAR (ok_zreturn (xdd xB_297 dL_law_1102) rfl) <|
  xA0 (ok_aload_n (xdd xB_297 dL_law_1103) rfl rfl) <|
  xA0 (ok_aload_n (xdd xB_297 dL_law_1104) rfl rfl) <|
  xA0 (ok_iload (xdd xB_297 dL_law_1105) rfl) <|
  xA0 (ok_iconst (xdd xB_297 dL_law_1107) rfl rfl (xrg rfl)) <|
  xA1 (ok_iadd (xdd xB_297 dL_law_1108) rfl) <|
  xA1 (ok_iaload (xdd xB_297 dL_law_1109) rfl) <|
  xAK rfl (xC1 (ok_callV (xdd xB_297 dL_law_1110) rfl xq_0 rfl xp_47_1 q1252 q1253 q1254 q111 q1255) xC0) <|
  xA0 (ok_aload_n (xdd xB_297 dL_law_1113) rfl rfl) <|
  xA0 (ok_aload_n (xdd xB_297 dL_law_1114) rfl rfl) <|
  xA0 (ok_iload (xdd xB_297 dL_law_1115) rfl) <|
  xA0 (ok_iconst (xdd xB_297 dL_law_1117) rfl rfl (xrg rfl)) <|
  xA1 (ok_iadd (xdd xB_297 dL_law_1118) rfl) <|
  xA1 (ok_iaload (xdd xB_297 dL_law_1119) rfl) <|
  xAe
theorem xe_297_35 {s0 : State} {A0 : Array Value} {D : va_G} {ta : Nat → ClassId} {l : Launch} : XAll s0 A0 D ta l 297 xk_297_35 :=
  xAK rfl (xC1 (ok_callV (xdd xB_297 dL_law_1120) rfl xq_9 rfl xp_230_1 q2058 q2059 q2060 q124 q2061) xC0) <|
  xAB (ok_icmp_eq (xdd xB_297 dL_law_1123) rfl rfl) <|
  xA0 (ok_iconst (xdd xB_297 dL_law_1126) rfl rfl (xrg rfl)) <|
  xAR (ok_zreturn (xdd xB_297 dL_law_1127) rfl) <|
  xA0 (ok_aload_n (xdd xB_297 dL_law_1128) rfl rfl) <|
  xA0 (ok_aload_n (xdd xB_297 dL_law_1129) rfl rfl) <|
  xA0 (ok_iload (xdd xB_297 dL_law_1130) rfl) <|
  xA0 (ok_iconst (xdd xB_297 dL_law_1132) rfl rfl (xrg rfl)) <|
  xA1 (ok_iadd (xdd xB_297 dL_law_1133) rfl) <|
  xA1 (ok_iaload (xdd xB_297 dL_law_1134) rfl) <|
  xA0 (ok_aload_n (xdd xB_297 dL_law_1135) rfl rfl) <|
  xA0 (ok_iload (xdd xB_297 dL_law_1136) rfl) <|
  xA0 (ok_iconst (xdd xB_297 dL_law_1138) rfl rfl (xrg rfl)) <|
  xA1 (ok_iadd (xdd xB_297 dL_law_1139) rfl) <|
  xA1 (ok_iaload (xdd xB_297 dL_law_1140) rfl) <|
  xA0 (ok_aload_n (xdd xB_297 dL_law_1141) rfl rfl) <|
  xA0 (ok_iload (xdd xB_297 dL_law_1142) rfl) <|
  xA0 (ok_iconst (xdd xB_297 dL_law_1144) rfl rfl (xrg rfl)) <|
  xA1 (ok_iadd (xdd xB_297 dL_law_1145) rfl) <|
  xA1 (ok_iaload (xdd xB_297 dL_law_1146) rfl) <|
  xA0 (ok_aload_n (xdd xB_297 dL_law_1147) rfl rfl) <|
  xA0 (ok_iload (xdd xB_297 dL_law_1148) rfl) <|
  xA0 (ok_iconst (xdd xB_297 dL_law_1150) rfl rfl (xrg rfl)) <|
  xA1 (ok_iadd (xdd xB_297 dL_law_1151) rfl) <|
  xAe
theorem xe_297_36 {s0 : State} {A0 : Array Value} {D : va_G} {ta : Nat → ClassId} {l : Launch} : XAll s0 A0 D ta l 297 xk_297_36 :=
  xA1 (ok_iaload (xdd xB_297 dL_law_1152) rfl) <|
  xA0 (ok_aload_n (xdd xB_297 dL_law_1153) rfl rfl) <|
  xA0 (ok_iload (xdd xB_297 dL_law_1154) rfl) <|
  xA0 (ok_iconst (xdd xB_297 dL_law_1156) rfl rfl (xrg rfl)) <|
  xA1 (ok_iadd (xdd xB_297 dL_law_1157) rfl) <|
  xA1 (ok_iaload (xdd xB_297 dL_law_1158) rfl) <|
  xAB (ok_if_eq (xdd xB_297 dL_law_1159) rfl rfl) <|
  xA0 (ok_iconst (xdd xB_297 dL_law_1162) rfl rfl (xrg rfl)) <|
  xA0 (ok_goto (xdd xB_297 dL_law_1163) rfl) <|
  xA0 (ok_iconst (xdd xB_297 dL_law_1166) rfl rfl (xrg rfl)) <|
  xAK rfl (xC1 (ok_callV (xdd xB_297 dL_law_1167) rfl xq_0 rfl xp_49_5 q1261 q1262 q1263 q111 q1264) xC0) <|
  xA0 (ok_aload_n (xdd xB_297 dL_law_1170) rfl rfl) <|
  xA0 (ok_aload_n (xdd xB_297 dL_law_1171) rfl rfl) <|
  xA0 (ok_iload (xdd xB_297 dL_law_1172) rfl) <|
  xA0 (ok_iconst (xdd xB_297 dL_law_1174) rfl rfl (xrg rfl)) <|
  xA1 (ok_iadd (xdd xB_297 dL_law_1175) rfl) <|
  xA1 (ok_iaload (xdd xB_297 dL_law_1176) rfl) <|
  xA0 (ok_aload_n (xdd xB_297 dL_law_1177) rfl rfl) <|
  xA0 (ok_iload (xdd xB_297 dL_law_1178) rfl) <|
  xA0 (ok_iconst (xdd xB_297 dL_law_1180) rfl rfl (xrg rfl)) <|
  xA1 (ok_iadd (xdd xB_297 dL_law_1181) rfl) <|
  xA1 (ok_iaload (xdd xB_297 dL_law_1182) rfl) <|
  xA0 (ok_aload_n (xdd xB_297 dL_law_1183) rfl rfl) <|
  xAe
theorem xe_297_37 {s0 : State} {A0 : Array Value} {D : va_G} {ta : Nat → ClassId} {l : Launch} : XAll s0 A0 D ta l 297 xk_297_37 :=
  xA0 (ok_iload (xdd xB_297 dL_law_1184) rfl) <|
  xA0 (ok_iconst (xdd xB_297 dL_law_1186) rfl rfl (xrg rfl)) <|
  xA1 (ok_iadd (xdd xB_297 dL_law_1187) rfl) <|
  xA1 (ok_iaload (xdd xB_297 dL_law_1188) rfl) <|
  xA0 (ok_aload_n (xdd xB_297 dL_law_1189) rfl rfl) <|
  xA0 (ok_iload (xdd xB_297 dL_law_1190) rfl) <|
  xA0 (ok_iconst (xdd xB_297 dL_law_1192) rfl rfl (xrg rfl)) <|
  xA1 (ok_iadd (xdd xB_297 dL_law_1193) rfl) <|
  xA1 (ok_iaload (xdd xB_297 dL_law_1194) rfl) <|
  xA0 (ok_aload_n (xdd xB_297 dL_law_1195) rfl rfl) <|
  xA0 (ok_iload (xdd xB_297 dL_law_1196) rfl) <|
  xA0 (ok_iconst (xdd xB_297 dL_law_1198) rfl rfl (xrg rfl)) <|
  xA1 (ok_iadd (xdd xB_297 dL_law_1199) rfl) <|
  xA1 (ok_iaload (xdd xB_297 dL_law_1200) rfl) <|
  xAB (ok_if_eq (xdd xB_297 dL_law_1201) rfl rfl) <|
  xA0 (ok_iconst (xdd xB_297 dL_law_1204) rfl rfl (xrg rfl)) <|
  xA0 (ok_goto (xdd xB_297 dL_law_1205) rfl) <|
  xA0 (ok_iconst (xdd xB_297 dL_law_1208) rfl rfl (xrg rfl)) <|
  xAK rfl (xC1 (ok_callV (xdd xB_297 dL_law_1209) rfl xq_9 rfl xp_232_5 q2066 q2067 q2068 q124 q2069) xC0) <|
  xAB (ok_icmp_eq (xdd xB_297 dL_law_1212) rfl rfl) <|
  xA0 (ok_iconst (xdd xB_297 dL_law_1215) rfl rfl (xrg rfl)) <|
  xAe
theorem xe_297_38 {s0 : State} {A0 : Array Value} {D : va_G} {ta : Nat → ClassId} {l : Launch} : XAll s0 A0 D ta l 297 xk_297_38 :=
  xAR (ok_zreturn (xdd xB_297 dL_law_1216) rfl) <|
  xA0 (ok_aload_n (xdd xB_297 dL_law_1217) rfl rfl) <|
  xA0 (ok_aload_n (xdd xB_297 dL_law_1218) rfl rfl) <|
  xA0 (ok_iload (xdd xB_297 dL_law_1219) rfl) <|
  xA0 (ok_iconst (xdd xB_297 dL_law_1221) rfl rfl (xrg rfl)) <|
  xA1 (ok_iadd (xdd xB_297 dL_law_1222) rfl) <|
  xA1 (ok_iaload (xdd xB_297 dL_law_1223) rfl) <|
  xA0 (ok_aload_n (xdd xB_297 dL_law_1224) rfl rfl) <|
  xA0 (ok_iload (xdd xB_297 dL_law_1225) rfl) <|
  xA0 (ok_iconst (xdd xB_297 dL_law_1227) rfl rfl (xrg rfl)) <|
  xA1 (ok_iadd (xdd xB_297 dL_law_1228) rfl) <|
  xA1 (ok_iaload (xdd xB_297 dL_law_1229) rfl) <|
  xAK rfl (xC1 (ok_callV (xdd xB_297 dL_law_1230) rfl xq_0 rfl xp_52_2 q1276 q1277 q1278 q111 q1279) xC0) <|
  xA0 (ok_aload_n (xdd xB_297 dL_law_1233) rfl rfl) <|
  xA0 (ok_aload_n (xdd xB_297 dL_law_1234) rfl rfl) <|
  xA0 (ok_iload (xdd xB_297 dL_law_1235) rfl) <|
  xA0 (ok_iconst (xdd xB_297 dL_law_1237) rfl rfl (xrg rfl)) <|
  xA1 (ok_iadd (xdd xB_297 dL_law_1238) rfl) <|
  xA1 (ok_iaload (xdd xB_297 dL_law_1239) rfl) <|
  xA0 (ok_aload_n (xdd xB_297 dL_law_1240) rfl rfl) <|
  xA0 (ok_iload (xdd xB_297 dL_law_1241) rfl) <|
  xA0 (ok_iconst (xdd xB_297 dL_law_1243) rfl rfl (xrg rfl)) <|
  xA1 (ok_iadd (xdd xB_297 dL_law_1244) rfl) <|
  xA1 (ok_iaload (xdd xB_297 dL_law_1245) rfl) <|
  xAK rfl (xC1 (ok_callV (xdd xB_297 dL_law_1246) rfl xq_9 rfl xp_235_2 q2078 q2079 q2080 q124 q2081) xC0) <|
  xAe
theorem xe_297_39 {s0 : State} {A0 : Array Value} {D : va_G} {ta : Nat → ClassId} {l : Launch} : XAll s0 A0 D ta l 297 xk_297_39 :=
  xAB (ok_icmp_eq (xdd xB_297 dL_law_1249) rfl rfl) <|
  xA0 (ok_iconst (xdd xB_297 dL_law_1252) rfl rfl (xrg rfl)) <|
  xAR (ok_zreturn (xdd xB_297 dL_law_1253) rfl) <|
  xA0 (ok_aload_n (xdd xB_297 dL_law_1254) rfl rfl) <|
  xA0 (ok_aload_n (xdd xB_297 dL_law_1255) rfl rfl) <|
  xA0 (ok_iload (xdd xB_297 dL_law_1256) rfl) <|
  xA0 (ok_iconst (xdd xB_297 dL_law_1258) rfl rfl (xrg rfl)) <|
  xA1 (ok_iadd (xdd xB_297 dL_law_1259) rfl) <|
  xA1 (ok_iaload (xdd xB_297 dL_law_1260) rfl) <|
  xA0 (ok_aload_n (xdd xB_297 dL_law_1261) rfl rfl) <|
  xA0 (ok_iload (xdd xB_297 dL_law_1262) rfl) <|
  xA0 (ok_iconst (xdd xB_297 dL_law_1264) rfl rfl (xrg rfl)) <|
  xA1 (ok_iadd (xdd xB_297 dL_law_1265) rfl) <|
  xA1 (ok_iaload (xdd xB_297 dL_law_1266) rfl) <|
  xAK rfl (xC1 (ok_callV (xdd xB_297 dL_law_1267) rfl xq_0 rfl xp_55_2 q1288 q1289 q1290 q111 q1291) xC0) <|
  xA0 (ok_aload_n (xdd xB_297 dL_law_1270) rfl rfl) <|
  xA0 (ok_aload_n (xdd xB_297 dL_law_1271) rfl rfl) <|
  xA0 (ok_iload (xdd xB_297 dL_law_1272) rfl) <|
  xA0 (ok_iconst (xdd xB_297 dL_law_1274) rfl rfl (xrg rfl)) <|
  xA1 (ok_iadd (xdd xB_297 dL_law_1275) rfl) <|
  xA1 (ok_iaload (xdd xB_297 dL_law_1276) rfl) <|
  xA0 (ok_aload_n (xdd xB_297 dL_law_1277) rfl rfl) <|
  xA0 (ok_iload (xdd xB_297 dL_law_1278) rfl) <|
  xAe
theorem xe_297_40 {s0 : State} {A0 : Array Value} {D : va_G} {ta : Nat → ClassId} {l : Launch} : XAll s0 A0 D ta l 297 xk_297_40 :=
  xA0 (ok_iconst (xdd xB_297 dL_law_1280) rfl rfl (xrg rfl)) <|
  xA1 (ok_iadd (xdd xB_297 dL_law_1281) rfl) <|
  xA1 (ok_iaload (xdd xB_297 dL_law_1282) rfl) <|
  xAK rfl (xC1 (ok_callV (xdd xB_297 dL_law_1283) rfl xq_9 rfl xp_237_2 q2086 q2087 q2088 q124 q2089) xC0) <|
  xAB (ok_icmp_eq (xdd xB_297 dL_law_1286) rfl rfl) <|
  xA0 (ok_iconst (xdd xB_297 dL_law_1289) rfl rfl (xrg rfl)) <|
  xAR (ok_zreturn (xdd xB_297 dL_law_1290) rfl) <|
  xA0 (ok_aload_n (xdd xB_297 dL_law_1291) rfl rfl) <|
  xA0 (ok_aload_n (xdd xB_297 dL_law_1292) rfl rfl) <|
  xA0 (ok_iload (xdd xB_297 dL_law_1293) rfl) <|
  xA0 (ok_iconst (xdd xB_297 dL_law_1295) rfl rfl (xrg rfl)) <|
  xA1 (ok_iadd (xdd xB_297 dL_law_1296) rfl) <|
  xA1 (ok_iaload (xdd xB_297 dL_law_1297) rfl) <|
  xA0 (ok_aload_n (xdd xB_297 dL_law_1298) rfl rfl) <|
  xA0 (ok_iload (xdd xB_297 dL_law_1299) rfl) <|
  xA0 (ok_iconst (xdd xB_297 dL_law_1301) rfl rfl (xrg rfl)) <|
  xA1 (ok_iadd (xdd xB_297 dL_law_1302) rfl) <|
  xA1 (ok_iaload (xdd xB_297 dL_law_1303) rfl) <|
  xAK rfl (xC1 (ok_callV (xdd xB_297 dL_law_1304) rfl xq_0 rfl xp_56_2 q1292 q1293 q1294 q111 q1295) xC0) <|
  xA0 (ok_aload_n (xdd xB_297 dL_law_1307) rfl rfl) <|
  xA0 (ok_aload_n (xdd xB_297 dL_law_1308) rfl rfl) <|
  xA0 (ok_iload (xdd xB_297 dL_law_1309) rfl) <|
  xA0 (ok_iconst (xdd xB_297 dL_law_1311) rfl rfl (xrg rfl)) <|
  xAe
theorem xe_297_41 {s0 : State} {A0 : Array Value} {D : va_G} {ta : Nat → ClassId} {l : Launch} : XAll s0 A0 D ta l 297 xk_297_41 :=
  xA1 (ok_iadd (xdd xB_297 dL_law_1312) rfl) <|
  xA1 (ok_iaload (xdd xB_297 dL_law_1313) rfl) <|
  xA0 (ok_aload_n (xdd xB_297 dL_law_1314) rfl rfl) <|
  xA0 (ok_iload (xdd xB_297 dL_law_1315) rfl) <|
  xA0 (ok_iconst (xdd xB_297 dL_law_1317) rfl rfl (xrg rfl)) <|
  xA1 (ok_iadd (xdd xB_297 dL_law_1318) rfl) <|
  xA1 (ok_iaload (xdd xB_297 dL_law_1319) rfl) <|
  xAK rfl (xC1 (ok_callV (xdd xB_297 dL_law_1320) rfl xq_9 rfl xp_238_2 q2090 q2091 q2092 q124 q2093) xC0) <|
  xAB (ok_icmp_eq (xdd xB_297 dL_law_1323) rfl rfl) <|
  xA0 (ok_iconst (xdd xB_297 dL_law_1326) rfl rfl (xrg rfl)) <|
  xAR (ok_zreturn (xdd xB_297 dL_law_1327) rfl) <|
  xA0 (ok_aload_n (xdd xB_297 dL_law_1328) rfl rfl) <|
  xA0 (ok_aload_n (xdd xB_297 dL_law_1329) rfl rfl) <|
  xA0 (ok_iload (xdd xB_297 dL_law_1330) rfl) <|
  xA0 (ok_iconst (xdd xB_297 dL_law_1332) rfl rfl (xrg rfl)) <|
  xA1 (ok_iadd (xdd xB_297 dL_law_1333) rfl) <|
  xA1 (ok_iaload (xdd xB_297 dL_law_1334) rfl) <|
  xA0 (ok_aload_n (xdd xB_297 dL_law_1335) rfl rfl) <|
  xA0 (ok_iload (xdd xB_297 dL_law_1336) rfl) <|
  xA0 (ok_iconst (xdd xB_297 dL_law_1338) rfl rfl (xrg rfl)) <|
  xA1 (ok_iadd (xdd xB_297 dL_law_1339) rfl) <|
  xA1 (ok_iaload (xdd xB_297 dL_law_1340) rfl) <|
  xA0 (ok_aload_n (xdd xB_297 dL_law_1341) rfl rfl) <|
  xA0 (ok_iload (xdd xB_297 dL_law_1342) rfl) <|
  xAe
theorem xe_297_42 {s0 : State} {A0 : Array Value} {D : va_G} {ta : Nat → ClassId} {l : Launch} : XAll s0 A0 D ta l 297 xk_297_42 :=
  xA0 (ok_iconst (xdd xB_297 dL_law_1344) rfl rfl (xrg rfl)) <|
  xA1 (ok_iadd (xdd xB_297 dL_law_1345) rfl) <|
  xA1 (ok_iaload (xdd xB_297 dL_law_1346) rfl) <|
  xAK rfl (xC1 (ok_callV (xdd xB_297 dL_law_1347) rfl xq_0 rfl xp_58_3 q1305 q1306 q1307 q111 q1308) xC0) <|
  xA0 (ok_aload_n (xdd xB_297 dL_law_1350) rfl rfl) <|
  xA0 (ok_aload_n (xdd xB_297 dL_law_1351) rfl rfl) <|
  xA0 (ok_iload (xdd xB_297 dL_law_1352) rfl) <|
  xA0 (ok_iconst (xdd xB_297 dL_law_1354) rfl rfl (xrg rfl)) <|
  xA1 (ok_iadd (xdd xB_297 dL_law_1355) rfl) <|
  xA1 (ok_iaload (xdd xB_297 dL_law_1356) rfl) <|
  xA0 (ok_aload_n (xdd xB_297 dL_law_1357) rfl rfl) <|
  xA0 (ok_iload (xdd xB_297 dL_law_1358) rfl) <|
  xA0 (ok_iconst (xdd xB_297 dL_law_1360) rfl rfl (xrg rfl)) <|
  xA1 (ok_iadd (xdd xB_297 dL_law_1361) rfl) <|
  xA1 (ok_iaload (xdd xB_297 dL_law_1362) rfl) <|
  xA0 (ok_aload_n (xdd xB_297 dL_law_1363) rfl rfl) <|
  xA0 (ok_iload (xdd xB_297 dL_law_1364) rfl) <|
  xA0 (ok_iconst (xdd xB_297 dL_law_1366) rfl rfl (xrg rfl)) <|
  xA1 (ok_iadd (xdd xB_297 dL_law_1367) rfl) <|
  xA1 (ok_iaload (xdd xB_297 dL_law_1368) rfl) <|
  xAK rfl (xC1 (ok_callV (xdd xB_297 dL_law_1369) rfl xq_9 rfl xp_241_3 q2106 q2107 q2108 q124 q2109) xC0) <|
  xAB (ok_icmp_eq (xdd xB_297 dL_law_1372) rfl rfl) <|
  xA0 (ok_iconst (xdd xB_297 dL_law_1375) rfl rfl (xrg rfl)) <|
  xAe
theorem xe_297_43 {s0 : State} {A0 : Array Value} {D : va_G} {ta : Nat → ClassId} {l : Launch} : XAll s0 A0 D ta l 297 xk_297_43 :=
  xAR (ok_zreturn (xdd xB_297 dL_law_1376) rfl) <|
  xA0 (ok_aload_n (xdd xB_297 dL_law_1377) rfl rfl) <|
  xA0 (ok_aload_n (xdd xB_297 dL_law_1378) rfl rfl) <|
  xA0 (ok_iload (xdd xB_297 dL_law_1379) rfl) <|
  xA0 (ok_iconst (xdd xB_297 dL_law_1381) rfl rfl (xrg rfl)) <|
  xA1 (ok_iadd (xdd xB_297 dL_law_1382) rfl) <|
  xA1 (ok_iaload (xdd xB_297 dL_law_1383) rfl) <|
  xA0 (ok_aload_n (xdd xB_297 dL_law_1384) rfl rfl) <|
  xA0 (ok_iload (xdd xB_297 dL_law_1385) rfl) <|
  xA0 (ok_iconst (xdd xB_297 dL_law_1387) rfl rfl (xrg rfl)) <|
  xA1 (ok_iadd (xdd xB_297 dL_law_1388) rfl) <|
  xA1 (ok_iaload (xdd xB_297 dL_law_1389) rfl) <|
  xAK rfl (xC1 (ok_callV (xdd xB_297 dL_law_1390) rfl xq_0 rfl xp_59_2 q1309 q1310 q1311 q111 q1312) xC0) <|
  xA0 (ok_aload_n (xdd xB_297 dL_law_1393) rfl rfl) <|
  xA0 (ok_aload_n (xdd xB_297 dL_law_1394) rfl rfl) <|
  xA0 (ok_iload (xdd xB_297 dL_law_1395) rfl) <|
  xA0 (ok_iconst (xdd xB_297 dL_law_1397) rfl rfl (xrg rfl)) <|
  xA1 (ok_iadd (xdd xB_297 dL_law_1398) rfl) <|
  xA1 (ok_iaload (xdd xB_297 dL_law_1399) rfl) <|
  xA0 (ok_aload_n (xdd xB_297 dL_law_1400) rfl rfl) <|
  xA0 (ok_iload (xdd xB_297 dL_law_1401) rfl) <|
  xA0 (ok_iconst (xdd xB_297 dL_law_1403) rfl rfl (xrg rfl)) <|
  xA1 (ok_iadd (xdd xB_297 dL_law_1404) rfl) <|
  xA1 (ok_iaload (xdd xB_297 dL_law_1405) rfl) <|
  xAK rfl (xC1 (ok_callV (xdd xB_297 dL_law_1406) rfl xq_9 rfl xp_242_2 q2110 q2111 q2112 q124 q2113) xC0) <|
  xAe
theorem xe_297_44 {s0 : State} {A0 : Array Value} {D : va_G} {ta : Nat → ClassId} {l : Launch} : XAll s0 A0 D ta l 297 xk_297_44 :=
  xAB (ok_icmp_eq (xdd xB_297 dL_law_1409) rfl rfl) <|
  xA0 (ok_iconst (xdd xB_297 dL_law_1412) rfl rfl (xrg rfl)) <|
  xAR (ok_zreturn (xdd xB_297 dL_law_1413) rfl) <|
  xA0 (ok_aload_n (xdd xB_297 dL_law_1414) rfl rfl) <|
  xA0 (ok_aload_n (xdd xB_297 dL_law_1415) rfl rfl) <|
  xA0 (ok_iload (xdd xB_297 dL_law_1416) rfl) <|
  xA0 (ok_iconst (xdd xB_297 dL_law_1418) rfl rfl (xrg rfl)) <|
  xA1 (ok_iadd (xdd xB_297 dL_law_1419) rfl) <|
  xA1 (ok_iaload (xdd xB_297 dL_law_1420) rfl) <|
  xA0 (ok_aload_n (xdd xB_297 dL_law_1421) rfl rfl) <|
  xA0 (ok_iload (xdd xB_297 dL_law_1422) rfl) <|
  xA0 (ok_iconst (xdd xB_297 dL_law_1424) rfl rfl (xrg rfl)) <|
  xA1 (ok_iadd (xdd xB_297 dL_law_1425) rfl) <|
  xA1 (ok_iaload (xdd xB_297 dL_law_1426) rfl) <|
  xAB (ok_if_eq (xdd xB_297 dL_law_1427) rfl rfl) <|
  xA0 (ok_iconst (xdd xB_297 dL_law_1430) rfl rfl (xrg rfl)) <|
  xA0 (ok_goto (xdd xB_297 dL_law_1431) rfl) <|
  xA0 (ok_iconst (xdd xB_297 dL_law_1434) rfl rfl (xrg rfl)) <|
  xAK rfl (xC1 (ok_callV (xdd xB_297 dL_law_1435) rfl xq_0 rfl xp_63_2 q1325 q1326 q1327 q111 q1328) xC0) <|
  xA0 (ok_aload_n (xdd xB_297 dL_law_1438) rfl rfl) <|
  xA0 (ok_aload_n (xdd xB_297 dL_law_1439) rfl rfl) <|
  xAe
theorem xe_297_45 {s0 : State} {A0 : Array Value} {D : va_G} {ta : Nat → ClassId} {l : Launch} : XAll s0 A0 D ta l 297 xk_297_45 :=
  xA0 (ok_iload (xdd xB_297 dL_law_1440) rfl) <|
  xA0 (ok_iconst (xdd xB_297 dL_law_1442) rfl rfl (xrg rfl)) <|
  xA1 (ok_iadd (xdd xB_297 dL_law_1443) rfl) <|
  xA1 (ok_iaload (xdd xB_297 dL_law_1444) rfl) <|
  xA0 (ok_aload_n (xdd xB_297 dL_law_1445) rfl rfl) <|
  xA0 (ok_iload (xdd xB_297 dL_law_1446) rfl) <|
  xA0 (ok_iconst (xdd xB_297 dL_law_1448) rfl rfl (xrg rfl)) <|
  xA1 (ok_iadd (xdd xB_297 dL_law_1449) rfl) <|
  xA1 (ok_iaload (xdd xB_297 dL_law_1450) rfl) <|
  xAB (ok_if_eq (xdd xB_297 dL_law_1451) rfl rfl) <|
  xA0 (ok_iconst (xdd xB_297 dL_law_1454) rfl rfl (xrg rfl)) <|
  xA0 (ok_goto (xdd xB_297 dL_law_1455) rfl) <|
  xA0 (ok_iconst (xdd xB_297 dL_law_1458) rfl rfl (xrg rfl)) <|
  xAK rfl (xC1 (ok_callV (xdd xB_297 dL_law_1459) rfl xq_9 rfl xp_246_2 q2126 q2127 q2128 q124 q2129) xC0) <|
  xAB (ok_icmp_eq (xdd xB_297 dL_law_1462) rfl rfl) <|
  xA0 (ok_iconst (xdd xB_297 dL_law_1465) rfl rfl (xrg rfl)) <|
  xAR (ok_zreturn (xdd xB_297 dL_law_1466) rfl) <|
  xA0 (ok_aload_n (xdd xB_297 dL_law_1467) rfl rfl) <|
  xA0 (ok_aload_n (xdd xB_297 dL_law_1468) rfl rfl) <|
  xA0 (ok_iload (xdd xB_297 dL_law_1469) rfl) <|
  xA0 (ok_iconst (xdd xB_297 dL_law_1471) rfl rfl (xrg rfl)) <|
  xAe
theorem xe_297_46 {s0 : State} {A0 : Array Value} {D : va_G} {ta : Nat → ClassId} {l : Launch} : XAll s0 A0 D ta l 297 xk_297_46 :=
  xA1 (ok_iadd (xdd xB_297 dL_law_1472) rfl) <|
  xA1 (ok_iaload (xdd xB_297 dL_law_1473) rfl) <|
  xA0 (ok_aload_n (xdd xB_297 dL_law_1474) rfl rfl) <|
  xA0 (ok_iload (xdd xB_297 dL_law_1475) rfl) <|
  xA0 (ok_iconst (xdd xB_297 dL_law_1477) rfl rfl (xrg rfl)) <|
  xA1 (ok_iadd (xdd xB_297 dL_law_1478) rfl) <|
  xA1 (ok_iaload (xdd xB_297 dL_law_1479) rfl) <|
  xAK rfl (xC1 (ok_callV (xdd xB_297 dL_law_1480) rfl xq_0 rfl xp_64_2 q1329 q1330 q1331 q111 q1332) xC0) <|
  xA0 (ok_aload_n (xdd xB_297 dL_law_1483) rfl rfl) <|
  xA0 (ok_aload_n (xdd xB_297 dL_law_1484) rfl rfl) <|
  xA0 (ok_iload (xdd xB_297 dL_law_1485) rfl) <|
  xA0 (ok_iconst (xdd xB_297 dL_law_1487) rfl rfl (xrg rfl)) <|
  xA1 (ok_iadd (xdd xB_297 dL_law_1488) rfl) <|
  xA1 (ok_iaload (xdd xB_297 dL_law_1489) rfl) <|
  xA0 (ok_aload_n (xdd xB_297 dL_law_1490) rfl rfl) <|
  xA0 (ok_iload (xdd xB_297 dL_law_1491) rfl) <|
  xA0 (ok_iconst (xdd xB_297 dL_law_1493) rfl rfl (xrg rfl)) <|
  xA1 (ok_iadd (xdd xB_297 dL_law_1494) rfl) <|
  xA1 (ok_iaload (xdd xB_297 dL_law_1495) rfl) <|
  xAK rfl (xC1 (ok_callV (xdd xB_297 dL_law_1496) rfl xq_9 rfl xp_247_2 q2130 q2131 q2132 q124 q2133) xC0) <|
  xAB (ok_icmp_eq (xdd xB_297 dL_law_1499) rfl rfl) <|
  xA0 (ok_iconst (xdd xB_297 dL_law_1502) rfl rfl (xrg rfl)) <|
  xAR (ok_zreturn (xdd xB_297 dL_law_1503) rfl) <|
  xAe
theorem xe_297_47 {s0 : State} {A0 : Array Value} {D : va_G} {ta : Nat → ClassId} {l : Launch} : XAll s0 A0 D ta l 297 xk_297_47 :=
  xA0 (ok_aload_n (xdd xB_297 dL_law_1504) rfl rfl) <|
  xA0 (ok_aload_n (xdd xB_297 dL_law_1505) rfl rfl) <|
  xA0 (ok_iload (xdd xB_297 dL_law_1506) rfl) <|
  xA0 (ok_iconst (xdd xB_297 dL_law_1508) rfl rfl (xrg rfl)) <|
  xA1 (ok_iadd (xdd xB_297 dL_law_1509) rfl) <|
  xA1 (ok_iaload (xdd xB_297 dL_law_1510) rfl) <|
  xA0 (ok_aload_n (xdd xB_297 dL_law_1511) rfl rfl) <|
  xA0 (ok_iload (xdd xB_297 dL_law_1512) rfl) <|
  xA0 (ok_iconst (xdd xB_297 dL_law_1514) rfl rfl (xrg rfl)) <|
  xA1 (ok_iadd (xdd xB_297 dL_law_1515) rfl) <|
  xA1 (ok_iaload (xdd xB_297 dL_law_1516) rfl) <|
  xAK rfl (xC1 (ok_callV (xdd xB_297 dL_law_1517) rfl xq_0 rfl xp_65_2 q1340 q1341 q1342 q111 q1343) xC0) <|
  xA0 (ok_aload_n (xdd xB_297 dL_law_1520) rfl rfl) <|
  xA0 (ok_aload_n (xdd xB_297 dL_law_1521) rfl rfl) <|
  xA0 (ok_iload (xdd xB_297 dL_law_1522) rfl) <|
  xA0 (ok_iconst (xdd xB_297 dL_law_1524) rfl rfl (xrg rfl)) <|
  xA1 (ok_iadd (xdd xB_297 dL_law_1525) rfl) <|
  xA1 (ok_iaload (xdd xB_297 dL_law_1526) rfl) <|
  xA0 (ok_aload_n (xdd xB_297 dL_law_1527) rfl rfl) <|
  xA0 (ok_iload (xdd xB_297 dL_law_1528) rfl) <|
  xA0 (ok_iconst (xdd xB_297 dL_law_1530) rfl rfl (xrg rfl)) <|
  xA1 (ok_iadd (xdd xB_297 dL_law_1531) rfl) <|
  xA1 (ok_iaload (xdd xB_297 dL_law_1532) rfl) <|
  xAK rfl (xC1 (ok_callV (xdd xB_297 dL_law_1533) rfl xq_9 rfl xp_248_2 q2134 q2135 q2136 q124 q2137) xC0) <|
  xAe
theorem xe_297_48 {s0 : State} {A0 : Array Value} {D : va_G} {ta : Nat → ClassId} {l : Launch} : XAll s0 A0 D ta l 297 xk_297_48 :=
  xAB (ok_icmp_eq (xdd xB_297 dL_law_1536) rfl rfl) <|
  xA0 (ok_iconst (xdd xB_297 dL_law_1539) rfl rfl (xrg rfl)) <|
  xAR (ok_zreturn (xdd xB_297 dL_law_1540) rfl) <|
  xA0 (ok_aload_n (xdd xB_297 dL_law_1541) rfl rfl) <|
  xAK rfl (xC1 (ok_callV (xdd xB_297 dL_law_1542) rfl xq_0 rfl xp_66_0 q1344 q1345 q1346 q111 q1347) xC0) <|
  xA0 (ok_aload_n (xdd xB_297 dL_law_1545) rfl rfl) <|
  xAK rfl (xC1 (ok_callV (xdd xB_297 dL_law_1546) rfl xq_9 rfl xp_249_0 q2138 q2139 q2140 q124 q2141) xC0) <|
  xAB (ok_icmp_eq (xdd xB_297 dL_law_1549) rfl rfl) <|
  xA0 (ok_iconst (xdd xB_297 dL_law_1552) rfl rfl (xrg rfl)) <|
  xAR (ok_zreturn (xdd xB_297 dL_law_1553) rfl) <|
  xA0 (ok_aload_n (xdd xB_297 dL_law_1554) rfl rfl) <|
  xAK rfl (xC1 (ok_callV (xdd xB_297 dL_law_1555) rfl xq_0 rfl xp_67_0 q1348 q1349 q1350 q111 q1351) xC0) <|
  xA0 (ok_aload_n (xdd xB_297 dL_law_1558) rfl rfl) <|
  xAK rfl (xC1 (ok_callV (xdd xB_297 dL_law_1559) rfl xq_9 rfl xp_250_0 q2142 q2143 q2144 q124 q2145) xC0) <|
  xAB (ok_icmp_eq (xdd xB_297 dL_law_1562) rfl rfl) <|
  xA0 (ok_iconst (xdd xB_297 dL_law_1565) rfl rfl (xrg rfl)) <|
  xAR (ok_zreturn (xdd xB_297 dL_law_1566) rfl) <|
  xA0 (ok_aload_n (xdd xB_297 dL_law_1567) rfl rfl) <|
  xAe
theorem xe_297_49 {s0 : State} {A0 : Array Value} {D : va_G} {ta : Nat → ClassId} {l : Launch} : XAll s0 A0 D ta l 297 xk_297_49 :=
  xA0 (ok_aload_n (xdd xB_297 dL_law_1568) rfl rfl) <|
  xA0 (ok_iload (xdd xB_297 dL_law_1569) rfl) <|
  xA0 (ok_iconst (xdd xB_297 dL_law_1571) rfl rfl (xrg rfl)) <|
  xA1 (ok_iadd (xdd xB_297 dL_law_1572) rfl) <|
  xA1 (ok_iaload (xdd xB_297 dL_law_1573) rfl) <|
  xAK rfl (xC1 (ok_callV (xdd xB_297 dL_law_1574) rfl xq_0 rfl xp_68_1 q1352 q1353 q1354 q111 q1355) xC0) <|
  xA0 (ok_aload_n (xdd xB_297 dL_law_1577) rfl rfl) <|
  xA0 (ok_aload_n (xdd xB_297 dL_law_1578) rfl rfl) <|
  xA0 (ok_iload (xdd xB_297 dL_law_1579) rfl) <|
  xA0 (ok_iconst (xdd xB_297 dL_law_1581) rfl rfl (xrg rfl)) <|
  xA1 (ok_iadd (xdd xB_297 dL_law_1582) rfl) <|
  xA1 (ok_iaload (xdd xB_297 dL_law_1583) rfl) <|
  xAK rfl (xC1 (ok_callV (xdd xB_297 dL_law_1584) rfl xq_9 rfl xp_251_1 q2146 q2147 q2148 q124 q2149) xC0) <|
  xAB (ok_icmp_eq (xdd xB_297 dL_law_1587) rfl rfl) <|
  xA0 (ok_iconst (xdd xB_297 dL_law_1590) rfl rfl (xrg rfl)) <|
  xAR (ok_zreturn (xdd xB_297 dL_law_1591) rfl) <|
  xA0 (ok_aload_n (xdd xB_297 dL_law_1592) rfl rfl) <|
  xA0 (ok_aload_n (xdd xB_297 dL_law_1593) rfl rfl) <|
  xA0 (ok_iload (xdd xB_297 dL_law_1594) rfl) <|
  xA0 (ok_iconst (xdd xB_297 dL_law_1596) rfl rfl (xrg rfl)) <|
  xA1 (ok_iadd (xdd xB_297 dL_law_1597) rfl) <|
  xA1 (ok_iaload (xdd xB_297 dL_law_1598) rfl) <|
  xA0 (ok_aload_n (xdd xB_297 dL_law_1599) rfl rfl) <|
  xAe
theorem xe_297_50 {s0 : State} {A0 : Array Value} {D : va_G} {ta : Nat → ClassId} {l : Launch} : XAll s0 A0 D ta l 297 xk_297_50 :=
  xAK rfl (xC1 (ok_callSX (xdd xB_297 dL_law_1600) rfl xp_0_3 q1368 q1369 q110 q1370) xC0) <|
  xA0 (ok_istore (xdd xB_297 dL_law_1603) rfl) <|
  xA0 (ok_aload_n (xdd xB_297 dL_law_1605) rfl rfl) <|
  xA0 (ok_aload_n (xdd xB_297 dL_law_1606) rfl rfl) <|
  xA0 (ok_iload (xdd xB_297 dL_law_1607) rfl) <|
  xA0 (ok_iconst (xdd xB_297 dL_law_1609) rfl rfl (xrg rfl)) <|
  xA1 (ok_iadd (xdd xB_297 dL_law_1610) rfl) <|
  xA1 (ok_iaload (xdd xB_297 dL_law_1611) rfl) <|
  xAK rfl (xC1 (ok_callV (xdd xB_297 dL_law_1612) rfl xq_9 rfl xp_252_1 q2150 q2151 q2152 q124 q2153) xC0) <|
  xA0 (ok_istore (xdd xB_297 dL_law_1615) rfl) <|
  xA0 (ok_aload_n (xdd xB_297 dL_law_1617) rfl rfl) <|
  xAK rfl (xC1 (ok_callV (xdd xB_297 dL_law_1618) rfl xq_9 rfl xp_139_0 q1521 q1522 q1523 q124 q1524) xC0) <|
  xA0 (ok_iload (xdd xB_297 dL_law_1621) rfl) <|
  xAB (ok_icmp_eq (xdd xB_297 dL_law_1623) rfl rfl) <|
  xA0 (ok_iconst (xdd xB_297 dL_law_1626) rfl rfl (xrg rfl)) <|
  xAR (ok_zreturn (xdd xB_297 dL_law_1627) rfl) <|
  xA0 (ok_iload (xdd xB_297 dL_law_1628) rfl) <|
  xAB (ok_if_ne (xdd xB_297 dL_law_1630) rfl rfl) <|
  xAe
theorem xe_297_51 {s0 : State} {A0 : Array Value} {D : va_G} {ta : Nat → ClassId} {l : Launch} : XAll s0 A0 D ta l 297 xk_297_51 :=
  xA0 (ok_aload_n (xdd xB_297 dL_law_1633) rfl rfl) <|
  xA0 (ok_iconst (xdd xB_297 dL_law_1634) rfl rfl (xrg rfl)) <|
  xA1 (ok_laload (xdd xB_297 dL_law_1635) rfl) <|
  xA0 (ok_iload (xdd xB_297 dL_law_1636) rfl) <|
  xA0 (ok_i2l (xdd xB_297 dL_law_1638) rfl) <|
  xA0 (ok_lcmp (xdd xB_297 dL_law_1639) rfl) <|
  xAB (ok_if_eq (xdd xB_297 dL_law_1640) rfl rfl) <|
  xA0 (ok_iconst (xdd xB_297 dL_law_1643) rfl rfl (xrg rfl)) <|
  xAR (ok_zreturn (xdd xB_297 dL_law_1644) rfl) <|
  xA0 (ok_goto (xdd xB_297 dL_law_1645) rfl) <|
  xA0 (ok_aload_n (xdd xB_297 dL_law_1648) rfl rfl) <|
  xA0 (ok_aload_n (xdd xB_297 dL_law_1649) rfl rfl) <|
  xA0 (ok_iload (xdd xB_297 dL_law_1650) rfl) <|
  xA0 (ok_iconst (xdd xB_297 dL_law_1652) rfl rfl (xrg rfl)) <|
  xA1 (ok_iadd (xdd xB_297 dL_law_1653) rfl) <|
  xA1 (ok_iaload (xdd xB_297 dL_law_1654) rfl) <|
  xAK rfl (xC1 (ok_callV (xdd xB_297 dL_law_1655) rfl xq_0 rfl xp_69_1 q1356 q1357 q1358 q111 q1359) xC0) <|
  xA0 (ok_aload_n (xdd xB_297 dL_law_1658) rfl rfl) <|
  xA0 (ok_aload_n (xdd xB_297 dL_law_1659) rfl rfl) <|
  xA0 (ok_iload (xdd xB_297 dL_law_1660) rfl) <|
  xA0 (ok_iconst (xdd xB_297 dL_law_1662) rfl rfl (xrg rfl)) <|
  xA1 (ok_iadd (xdd xB_297 dL_law_1663) rfl) <|
  xAe
theorem xe_297_52 {s0 : State} {A0 : Array Value} {D : va_G} {ta : Nat → ClassId} {l : Launch} : XAll s0 A0 D ta l 297 xk_297_52 :=
  xA1 (ok_iaload (xdd xB_297 dL_law_1664) rfl) <|
  xAK rfl (xC1 (ok_callV (xdd xB_297 dL_law_1665) rfl xq_9 rfl xp_253_1 q2154 q2155 q2156 q124 q2157) xC0) <|
  xAB (ok_icmp_eq (xdd xB_297 dL_law_1668) rfl rfl) <|
  xA0 (ok_iconst (xdd xB_297 dL_law_1671) rfl rfl (xrg rfl)) <|
  xAR (ok_zreturn (xdd xB_297 dL_law_1672) rfl) <|
  xA0 (ok_aload_n (xdd xB_297 dL_law_1673) rfl rfl) <|
  xAK rfl (xC1 (ok_callV (xdd xB_297 dL_law_1674) rfl xq_0 rfl xp_71_0 q1364 q1365 q1366 q111 q1367) xC0) <|
  xA0 (ok_aload_n (xdd xB_297 dL_law_1677) rfl rfl) <|
  xAK rfl (xC1 (ok_callV (xdd xB_297 dL_law_1678) rfl xq_9 rfl xp_255_0 q2162 q2163 q2164 q124 q2165) xC0) <|
  xAB (ok_icmp_eq (xdd xB_297 dL_law_1681) rfl rfl) <|
  xA0 (ok_iconst (xdd xB_297 dL_law_1684) rfl rfl (xrg rfl)) <|
  xAR (ok_zreturn (xdd xB_297 dL_law_1685) rfl) <|
  xA1 (ok_iinc (xdd xB_297 dL_law_1686) rfl) <|
  xA0 (ok_goto (xdd xB_297 dL_law_1689) rfl) <|
  xA0 (ok_iconst (xdd xB_297 dL_law_1692) rfl rfl (xrg rfl)) <|
  xAR (ok_zreturn (xdd xB_297 dL_law_1693) rfl) <|
  xAe
theorem xe_297 {s0 : State} {A0 : Array Value} {D : va_G} {ta : Nat → ClassId} {l : Launch} : XAllC s0 A0 D ta l 297 xk_297 := ⟨xe_297_0, xe_297_1, xe_297_2, xe_297_3, xe_297_4, xe_297_5, xe_297_6, xe_297_7, xe_297_8, xe_297_9, xe_297_10, xe_297_11, xe_297_12, xe_297_13, xe_297_14, xe_297_15, xe_297_16, xe_297_17, xe_297_18, xe_297_19, xe_297_20, xe_297_21, xe_297_22, xe_297_23, xe_297_24, xe_297_25, xe_297_26, xe_297_27, xe_297_28, xe_297_29, xe_297_30, xe_297_31, xe_297_32, xe_297_33, xe_297_34, xe_297_35, xe_297_36, xe_297_37, xe_297_38, xe_297_39, xe_297_40, xe_297_41, xe_297_42, xe_297_43, xe_297_44, xe_297_45, xe_297_46, xe_297_47, xe_297_48, xe_297_49, xe_297_50, xe_297_51, xe_297_52, trivial⟩
