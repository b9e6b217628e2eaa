/-! EVIDENCE: methods 50 to 99 -/
set_option maxRecDepth 100000
set_option maxHeartbeats 4000000
theorem xe_50_0 {s0 : State} {A0 : Array Value} {D : va_G} {ta : Nat → ClassId} {l : Launch} : XAll s0 A0 D ta l 50 xk_50_0 :=
  xA0 (ok_aload_n (xdd xB_50 dX1_gainOf_0) rfl rfl) <|
  xA1 (ok_getA (xdd xB_50 dX1_gainOf_1) rfl (lk_f q403) rfl) <|
  xA1 (ok_getA (xdd xB_50 dX1_gainOf_4) rfl (lk_f q506) rfl) <|
  xA0 (ok_iload_n (xdd xB_50 dX1_gainOf_7) rfl rfl) <|
  xA1 (ok_aaload (xdd xB_50 dX1_gainOf_8) rfl) <|
  xA1 (ok_getI (xdd xB_50 dX1_gainOf_9) rfl (lk_f q799) (by decide)) <|
  xA0 (ok_aload_n (xdd xB_50 dX1_gainOf_12) rfl rfl) <|
  xA1 (ok_getA (xdd xB_50 dX1_gainOf_13) rfl (lk_f q403) rfl) <|
  xA1 (ok_getA (xdd xB_50 dX1_gainOf_16) rfl (lk_f q506) rfl) <|
  xA0 (ok_iload_n (xdd xB_50 dX1_gainOf_19) rfl rfl) <|
  xA1 (ok_aaload (xdd xB_50 dX1_gainOf_20) rfl) <|
  xA1 (ok_getI (xdd xB_50 dX1_gainOf_21) rfl (lk_f q799) (by decide)) <|
  xA1 (ok_iadd (xdd xB_50 dX1_gainOf_24) rfl) <|
  xA0 (ok_istore (xdd xB_50 dX1_gainOf_25) rfl) <|
  xA0 (ok_aload_n (xdd xB_50 dX1_gainOf_27) rfl rfl) <|
  xA0 (ok_iload_n (xdd xB_50 dX1_gainOf_28) rfl rfl) <|
  xA0 (ok_iload_n (xdd xB_50 dX1_gainOf_29) rfl rfl) <|
  xAK rfl (xC1 (ok_callV (xdd xB_50 dX1_gainOf_30) rfl xq_0 rfl xp_51_2 q1269 q1271 qs41 q111 q1272) xC0) <|
  xAe
theorem xe_50_1 {s0 : State} {A0 : Array Value} {D : va_G} {ta : Nat → ClassId} {l : Launch} : XAll s0 A0 D ta l 50 xk_50_1 :=
  xA0 (ok_aload_n (xdd xB_50 dX1_gainOf_33) rfl rfl) <|
  xA0 (ok_iload_n (xdd xB_50 dX1_gainOf_34) rfl rfl) <|
  xA0 (ok_iload (xdd xB_50 dX1_gainOf_35) rfl) <|
  xAK rfl (xC1 (ok_callV (xdd xB_50 dX1_gainOf_37) rfl xq_0 rfl xp_51_2 q1269 q1271 qs41 q111 q1272) xC0) <|
  xA1 (ok_isub (xdd xB_50 dX1_gainOf_40) rfl) <|
  xA0 (ok_istore (xdd xB_50 dX1_gainOf_41) rfl) <|
  xA0 (ok_iload_n (xdd xB_50 dX1_gainOf_43) rfl rfl) <|
  xA0 (ok_iload (xdd xB_50 dX1_gainOf_44) rfl) <|
  xA1 (ok_mabs (xdd xB_50 dX1_gainOf_46) rfl q1273) <|
  xA0 (ok_aload_n (xdd xB_50 dX1_gainOf_49) rfl rfl) <|
  xA1 (ok_getA (xdd xB_50 dX1_gainOf_50) rfl (lk_f q403) rfl) <|
  xA1 (ok_getI (xdd xB_50 dX1_gainOf_53) rfl (lk_f q522) (by decide)) <|
  xAB (ok_icmp_gt (xdd xB_50 dX1_gainOf_56) rfl rfl) <|
  xA0 (ok_iload (xdd xB_50 dX1_gainOf_59) rfl) <|
  xA0 (ok_iconst (xdd xB_50 dX1_gainOf_61) rfl rfl (xrg rfl)) <|
  xA1 (ok_idiv (xdd xB_50 dX1_gainOf_62) rfl) <|
  xA0 (ok_goto (xdd xB_50 dX1_gainOf_63) rfl) <|
  xAe
theorem xe_50_2 {s0 : State} {A0 : Array Value} {D : va_G} {ta : Nat → ClassId} {l : Launch} : XAll s0 A0 D ta l 50 xk_50_2 :=
  xA0 (ok_iload (xdd xB_50 dX1_gainOf_66) rfl) <|
  xAB (ok_if_le (xdd xB_50 dX1_gainOf_68) rfl rfl) <|
  xA0 (ok_iload (xdd xB_50 dX1_gainOf_71) rfl) <|
  xA0 (ok_goto (xdd xB_50 dX1_gainOf_73) rfl) <|
  xA0 (ok_iconst (xdd xB_50 dX1_gainOf_76) rfl rfl (xrg rfl)) <|
  xA1 (ok_imul (xdd xB_50 dX1_gainOf_77) rfl) <|
  xAR (ok_ireturn (xdd xB_50 dX1_gainOf_78) rfl) <|
  xAe
theorem xe_50 {s0 : State} {A0 : Array Value} {D : va_G} {ta : Nat → ClassId} {l : Launch} : XAllC s0 A0 D ta l 50 xk_50 := ⟨xe_50_0, xe_50_1, xe_50_2, trivial⟩
theorem xe_51_0 {s0 : State} {A0 : Array Value} {D : va_G} {ta : Nat → ClassId} {l : Launch} : XAll s0 A0 D ta l 51 xk_51_0 :=
  xA0 (ok_aload_n (xdd xB_51 dX1_worth_0) rfl rfl) <|
  xA1 (ok_getA (xdd xB_51 dX1_worth_1) rfl (lk_f q403) rfl) <|
  xA1 (ok_getA (xdd xB_51 dX1_worth_4) rfl (lk_f q506) rfl) <|
  xA0 (ok_iload_n (xdd xB_51 dX1_worth_7) rfl rfl) <|
  xA1 (ok_aaload (xdd xB_51 dX1_worth_8) rfl) <|
  xA1 (ok_getI (xdd xB_51 dX1_worth_9) rfl (lk_f q799) (by decide)) <|
  xA0 (ok_aload_n (xdd xB_51 dX1_worth_12) rfl rfl) <|
  xA1 (ok_getA (xdd xB_51 dX1_worth_13) rfl (lk_f q409) rfl) <|
  xAK rfl (xC1 (ok_callV (xdd xB_51 dX1_worth_16) rfl xq_3 rfl xp_109_0 q1023 q1024 q1025 q117 q1026) xC0) <|
  xA0 (ok_iload_n (xdd xB_51 dX1_worth_19) rfl rfl) <|
  xAK rfl (xC1 (ok_callS (xdd xB_51 dX1_worth_20) rfl xp_12_2 q973 q974 q111 q975) xC0) <|
  xAB (ok_if_eq (xdd xB_51 dX1_worth_23) rfl rfl) <|
  xA0 (ok_iconst (xdd xB_51 dX1_worth_26) rfl rfl (xrg rfl)) <|
  xA0 (ok_goto (xdd xB_51 dX1_worth_27) rfl) <|
  xA0 (ok_iconst (xdd xB_51 dX1_worth_30) rfl rfl (xrg rfl)) <|
  xA1 (ok_iadd (xdd xB_51 dX1_worth_31) rfl) <|
  xAe
theorem xe_51_1 {s0 : State} {A0 : Array Value} {D : va_G} {ta : Nat → ClassId} {l : Launch} : XAll s0 A0 D ta l 51 xk_51_1 :=
  xA0 (ok_iload_n (xdd xB_51 dX1_worth_32) rfl rfl) <|
  xA1 (ok_isub (xdd xB_51 dX1_worth_33) rfl) <|
  xAR (ok_ireturn (xdd xB_51 dX1_worth_34) rfl) <|
  xAe
theorem xe_51 {s0 : State} {A0 : Array Value} {D : va_G} {ta : Nat → ClassId} {l : Launch} : XAllC s0 A0 D ta l 51 xk_51 := ⟨xe_51_0, xe_51_1, trivial⟩
theorem xe_52_0 {s0 : State} {A0 : Array Value} {D : va_G} {ta : Nat → ClassId} {l : Launch} : XAll s0 A0 D ta l 52 xk_52_0 :=
  xA0 (ok_aload_n (xdd xB_52 dX1_rests_0) rfl rfl) <|
  xAK rfl (xC1 (ok_callV (xdd xB_52 dX1_rests_1) rfl xq_0 rfl xp_5_0 q477 q479 qs2 q111 q480) xC0) <|
  xA0 (ok_aload_n (xdd xB_52 dX1_rests_4) rfl rfl) <|
  xA0 (ok_iload_n (xdd xB_52 dX1_rests_5) rfl rfl) <|
  xAK rfl (xC1 (ok_callV (xdd xB_52 dX1_rests_6) rfl xq_0 rfl xp_11_1 q965 q967 qs27 q111 q968) xC0) <|
  xAB (ok_if_eq (xdd xB_52 dX1_rests_9) rfl rfl) <|
  xA0 (ok_aload_n (xdd xB_52 dX1_rests_12) rfl rfl) <|
  xA0 (ok_iload_n (xdd xB_52 dX1_rests_13) rfl rfl) <|
  xAK rfl (xC1 (ok_callV (xdd xB_52 dX1_rests_14) rfl xq_0 rfl xp_11_1 q965 q967 qs27 q111 q968) xC0) <|
  xAB (ok_if_eq (xdd xB_52 dX1_rests_17) rfl rfl) <|
  xA0 (ok_iload_n (xdd xB_52 dX1_rests_20) rfl rfl) <|
  xA0 (ok_iload_n (xdd xB_52 dX1_rests_21) rfl rfl) <|
  xAB (ok_icmp_eq (xdd xB_52 dX1_rests_22) rfl rfl) <|
  xA0 (ok_aload_n (xdd xB_52 dX1_rests_25) rfl rfl) <|
  xA0 (ok_iload_n (xdd xB_52 dX1_rests_26) rfl rfl) <|
  xA0 (ok_iload_n (xdd xB_52 dX1_rests_27) rfl rfl) <|
  xAK rfl (xC1 (ok_callV (xdd xB_52 dX1_rests_28) rfl xq_0 rfl xp_53_2 q1280 q1282 qs42 q111 q1283) xC0) <|
  xA0 (ok_goto (xdd xB_52 dX1_rests_31) rfl) <|
  xAe
theorem xe_52_1 {s0 : State} {A0 : Array Value} {D : va_G} {ta : Nat → ClassId} {l : Launch} : XAll s0 A0 D ta l 52 xk_52_1 :=
  xA0 (ok_aload_n (xdd xB_52 dX1_rests_34) rfl rfl) <|
  xA0 (ok_iconst (xdd xB_52 dX1_rests_35) rfl rfl (xrg rfl)) <|
  xAK rfl (xC1 (ok_callV (xdd xB_52 dX1_rests_36) rfl xq_0 rfl xp_7_1 q484 q486 qs3 q111 q487) xC0) <|
  xAR (ok_ireturn (xdd xB_52 dX1_rests_39) rfl) <|
  xAe
theorem xe_52 {s0 : State} {A0 : Array Value} {D : va_G} {ta : Nat → ClassId} {l : Launch} : XAllC s0 A0 D ta l 52 xk_52 := ⟨xe_52_0, xe_52_1, trivial⟩
theorem xe_53_0 {s0 : State} {A0 : Array Value} {D : va_G} {ta : Nat → ClassId} {l : Launch} : XAll s0 A0 D ta l 53 xk_53_0 :=
  xA0 (ok_iconst (xdd xB_53 dX1_seekRests_0) rfl rfl (xrg rfl)) <|
  xA0 (ok_istore_n (xdd xB_53 dX1_seekRests_1) rfl rfl) <|
  xA0 (ok_aload_n (xdd xB_53 dX1_seekRests_2) rfl rfl) <|
  xA0 (ok_bipush (xdd xB_53 dX1_seekRests_3) rfl rfl (xrg rfl)) <|
  xA1 (ok_putI (xdd xB_53 dX1_seekRests_5) rfl (lk_f q420) rfl xfd_20 (Or.inl rfl)) <|
  xA0 (ok_iconst (xdd xB_53 dX1_seekRests_8) rfl rfl (xrg rfl)) <|
  xA0 (ok_istore (xdd xB_53 dX1_seekRests_9) rfl) <|
  xA0 (ok_iload (xdd xB_53 dX1_seekRests_11) rfl) <|
  xA0 (ok_bipush (xdd xB_53 dX1_seekRests_13) rfl rfl (xrg rfl)) <|
  xAB (ok_icmp_gt (xdd xB_53 dX1_seekRests_15) rfl rfl) <|
  xA0 (ok_iconst (xdd xB_53 dX1_seekRests_18) rfl rfl (xrg rfl)) <|
  xA0 (ok_istore (xdd xB_53 dX1_seekRests_19) rfl) <|
  xA0 (ok_iload (xdd xB_53 dX1_seekRests_21) rfl) <|
  xA0 (ok_bipush (xdd xB_53 dX1_seekRests_23) rfl rfl (xrg rfl)) <|
  xAB (ok_icmp_gt (xdd xB_53 dX1_seekRests_25) rfl rfl) <|
  xA0 (ok_aload_n (xdd xB_53 dX1_seekRests_28) rfl rfl) <|
  xA0 (ok_iload_n (xdd xB_53 dX1_seekRests_29) rfl rfl) <|
  xA0 (ok_iload (xdd xB_53 dX1_seekRests_30) rfl) <|
  xAe
theorem xe_53_1 {s0 : State} {A0 : Array Value} {D : va_G} {ta : Nat → ClassId} {l : Launch} : XAll s0 A0 D ta l 53 xk_53_1 :=
  xA0 (ok_iload_n (xdd xB_53 dX1_seekRests_32) rfl rfl) <|
  xA0 (ok_iload (xdd xB_53 dX1_seekRests_33) rfl) <|
  xAK rfl (xC1 (ok_callV (xdd xB_53 dX1_seekRests_35) rfl xq_0 rfl xp_54_4 q1284 q1286 qs43 q111 q1287) xC0) <|
  xAB (ok_if_ne (xdd xB_53 dX1_seekRests_38) rfl rfl) <|
  xA0 (ok_goto (xdd xB_53 dX1_seekRests_41) rfl) <|
  xA0 (ok_iload_n (xdd xB_53 dX1_seekRests_44) rfl rfl) <|
  xAB (ok_if_ne (xdd xB_53 dX1_seekRests_45) rfl rfl) <|
  xA0 (ok_aload_n (xdd xB_53 dX1_seekRests_48) rfl rfl) <|
  xA0 (ok_bipush (xdd xB_53 dX1_seekRests_49) rfl rfl (xrg rfl)) <|
  xA0 (ok_iload (xdd xB_53 dX1_seekRests_51) rfl) <|
  xA1 (ok_imul (xdd xB_53 dX1_seekRests_53) rfl) <|
  xA0 (ok_iload (xdd xB_53 dX1_seekRests_54) rfl) <|
  xA1 (ok_iadd (xdd xB_53 dX1_seekRests_56) rfl) <|
  xA1 (ok_putI (xdd xB_53 dX1_seekRests_57) rfl (lk_f q420) rfl xfd_20 (Or.inl rfl)) <|
  xA1 (ok_iinc (xdd xB_53 dX1_seekRests_60) rfl) <|
  xA1 (ok_iinc (xdd xB_53 dX1_seekRests_63) rfl) <|
  xAe
theorem xe_53_2 {s0 : State} {A0 : Array Value} {D : va_G} {ta : Nat → ClassId} {l : Launch} : XAll s0 A0 D ta l 53 xk_53_2 :=
  xA0 (ok_goto (xdd xB_53 dX1_seekRests_66) rfl) <|
  xA1 (ok_iinc (xdd xB_53 dX1_seekRests_69) rfl) <|
  xA0 (ok_goto (xdd xB_53 dX1_seekRests_72) rfl) <|
  xA0 (ok_iload_n (xdd xB_53 dX1_seekRests_75) rfl rfl) <|
  xAR (ok_ireturn (xdd xB_53 dX1_seekRests_76) rfl) <|
  xAe
theorem xe_53 {s0 : State} {A0 : Array Value} {D : va_G} {ta : Nat → ClassId} {l : Launch} : XAllC s0 A0 D ta l 53 xk_53 := ⟨xe_53_0, xe_53_1, xe_53_2, trivial⟩
theorem xe_54_0 {s0 : State} {A0 : Array Value} {D : va_G} {ta : Nat → ClassId} {l : Launch} : XAll s0 A0 D ta l 54 xk_54_0 :=
  xA0 (ok_iconst (xdd xB_54 dX1_isRest_0) rfl rfl (xrg rfl)) <|
  xA0 (ok_istore (xdd xB_54 dX1_isRest_1) rfl) <|
  xA0 (ok_iconst (xdd xB_54 dX1_isRest_3) rfl rfl (xrg rfl)) <|
  xA0 (ok_istore (xdd xB_54 dX1_isRest_4) rfl) <|
  xA0 (ok_iload (xdd xB_54 dX1_isRest_6) rfl) <|
  xA0 (ok_bipush (xdd xB_54 dX1_isRest_8) rfl rfl (xrg rfl)) <|
  xAB (ok_icmp_gt (xdd xB_54 dX1_isRest_10) rfl rfl) <|
  xA0 (ok_iload (xdd xB_54 dX1_isRest_13) rfl) <|
  xAB (ok_if_eq (xdd xB_54 dX1_isRest_15) rfl rfl) <|
  xA0 (ok_aload_n (xdd xB_54 dX1_isRest_18) rfl rfl) <|
  xA0 (ok_iload_n (xdd xB_54 dX1_isRest_19) rfl rfl) <|
  xA0 (ok_iload (xdd xB_54 dX1_isRest_20) rfl) <|
  xA0 (ok_iload_n (xdd xB_54 dX1_isRest_22) rfl rfl) <|
  xA0 (ok_iload (xdd xB_54 dX1_isRest_23) rfl) <|
  xAK rfl (xC1 (ok_callV (xdd xB_54 dX1_isRest_25) rfl xq_0 rfl xp_50_4 q1265 q1267 qs40 q111 q1268) xC0) <|
  xA0 (ok_aload_n (xdd xB_54 dX1_isRest_28) rfl rfl) <|
  xA0 (ok_iload_n (xdd xB_54 dX1_isRest_29) rfl rfl) <|
  xA0 (ok_iload_n (xdd xB_54 dX1_isRest_30) rfl rfl) <|
  xA0 (ok_iload_n (xdd xB_54 dX1_isRest_31) rfl rfl) <|
  xAe
theorem xe_54_1 {s0 : State} {A0 : Array Value} {D : va_G} {ta : Nat → ClassId} {l : Launch} : XAll s0 A0 D ta l 54 xk_54_1 :=
  xA0 (ok_iload (xdd xB_54 dX1_isRest_32) rfl) <|
  xAK rfl (xC1 (ok_callV (xdd xB_54 dX1_isRest_34) rfl xq_0 rfl xp_50_4 q1265 q1267 qs40 q111 q1268) xC0) <|
  xAB (ok_icmp_gt (xdd xB_54 dX1_isRest_37) rfl rfl) <|
  xA0 (ok_aload_n (xdd xB_54 dX1_isRest_40) rfl rfl) <|
  xA0 (ok_iload_n (xdd xB_54 dX1_isRest_41) rfl rfl) <|
  xA0 (ok_iload (xdd xB_54 dX1_isRest_42) rfl) <|
  xA0 (ok_iload_n (xdd xB_54 dX1_isRest_44) rfl rfl) <|
  xA0 (ok_iload_n (xdd xB_54 dX1_isRest_45) rfl rfl) <|
  xAK rfl (xC1 (ok_callV (xdd xB_54 dX1_isRest_46) rfl xq_0 rfl xp_50_4 q1265 q1267 qs40 q111 q1268) xC0) <|
  xA0 (ok_aload_n (xdd xB_54 dX1_isRest_49) rfl rfl) <|
  xA0 (ok_iload_n (xdd xB_54 dX1_isRest_50) rfl rfl) <|
  xA0 (ok_iload (xdd xB_54 dX1_isRest_51) rfl) <|
  xA0 (ok_iload_n (xdd xB_54 dX1_isRest_53) rfl rfl) <|
  xA0 (ok_iload_n (xdd xB_54 dX1_isRest_54) rfl rfl) <|
  xAK rfl (xC1 (ok_callV (xdd xB_54 dX1_isRest_55) rfl xq_0 rfl xp_50_4 q1265 q1267 qs40 q111 q1268) xC0) <|
  xAB (ok_icmp_gt (xdd xB_54 dX1_isRest_58) rfl rfl) <|
  xA0 (ok_iconst (xdd xB_54 dX1_isRest_61) rfl rfl (xrg rfl)) <|
  xA0 (ok_goto (xdd xB_54 dX1_isRest_62) rfl) <|
  xAe
theorem xe_54_2 {s0 : State} {A0 : Array Value} {D : va_G} {ta : Nat → ClassId} {l : Launch} : XAll s0 A0 D ta l 54 xk_54_2 :=
  xA0 (ok_iconst (xdd xB_54 dX1_isRest_65) rfl rfl (xrg rfl)) <|
  xA0 (ok_istore (xdd xB_54 dX1_isRest_66) rfl) <|
  xA1 (ok_iinc (xdd xB_54 dX1_isRest_68) rfl) <|
  xA0 (ok_goto (xdd xB_54 dX1_isRest_71) rfl) <|
  xA0 (ok_iload (xdd xB_54 dX1_isRest_74) rfl) <|
  xAR (ok_zreturn (xdd xB_54 dX1_isRest_76) rfl) <|
  xAe
theorem xe_54 {s0 : State} {A0 : Array Value} {D : va_G} {ta : Nat → ClassId} {l : Launch} : XAllC s0 A0 D ta l 54 xk_54 := ⟨xe_54_0, xe_54_1, xe_54_2, trivial⟩
theorem xe_55_0 {s0 : State} {A0 : Array Value} {D : va_G} {ta : Nat → ClassId} {l : Launch} : XAll s0 A0 D ta l 55 xk_55_0 :=
  xA0 (ok_aload_n (xdd xB_55 dX1_rest_0) rfl rfl) <|
  xAK rfl (xC1 (ok_callV (xdd xB_55 dX1_rest_1) rfl xq_0 rfl xp_5_0 q477 q479 qs2 q111 q480) xC0) <|
  xA0 (ok_aload_n (xdd xB_55 dX1_rest_4) rfl rfl) <|
  xA0 (ok_iload_n (xdd xB_55 dX1_rest_5) rfl rfl) <|
  xAK rfl (xC1 (ok_callV (xdd xB_55 dX1_rest_6) rfl xq_0 rfl xp_11_1 q965 q967 qs27 q111 q968) xC0) <|
  xAB (ok_if_eq (xdd xB_55 dX1_rest_9) rfl rfl) <|
  xA0 (ok_aload_n (xdd xB_55 dX1_rest_12) rfl rfl) <|
  xA0 (ok_iload_n (xdd xB_55 dX1_rest_13) rfl rfl) <|
  xAK rfl (xC1 (ok_callV (xdd xB_55 dX1_rest_14) rfl xq_0 rfl xp_11_1 q965 q967 qs27 q111 q968) xC0) <|
  xAB (ok_if_eq (xdd xB_55 dX1_rest_17) rfl rfl) <|
  xA0 (ok_iload_n (xdd xB_55 dX1_rest_20) rfl rfl) <|
  xA0 (ok_iload_n (xdd xB_55 dX1_rest_21) rfl rfl) <|
  xAB (ok_icmp_ne (xdd xB_55 dX1_rest_22) rfl rfl) <|
  xA0 (ok_aload_n (xdd xB_55 dX1_rest_25) rfl rfl) <|
  xA0 (ok_iconst (xdd xB_55 dX1_rest_26) rfl rfl (xrg rfl)) <|
  xAK rfl (xC1 (ok_callV (xdd xB_55 dX1_rest_27) rfl xq_0 rfl xp_7_1 q484 q486 qs3 q111 q487) xC0) <|
  xAR (ok_ireturn (xdd xB_55 dX1_rest_30) rfl) <|
  xA0 (ok_aload_n (xdd xB_55 dX1_rest_31) rfl rfl) <|
  xAe
theorem xe_55_1 {s0 : State} {A0 : Array Value} {D : va_G} {ta : Nat → ClassId} {l : Launch} : XAll s0 A0 D ta l 55 xk_55_1 :=
  xA0 (ok_iload_n (xdd xB_55 dX1_rest_32) rfl rfl) <|
  xA0 (ok_iload_n (xdd xB_55 dX1_rest_33) rfl rfl) <|
  xAK rfl (xC1 (ok_callV (xdd xB_55 dX1_rest_34) rfl xq_0 rfl xp_53_2 q1280 q1282 qs42 q111 q1283) xC0) <|
  xA0 (ok_pop (xdd xB_55 dX1_rest_37) rfl) <|
  xA0 (ok_aload_n (xdd xB_55 dX1_rest_38) rfl rfl) <|
  xA1 (ok_getI (xdd xB_55 dX1_rest_39) rfl (lk_f q420) (by decide)) <|
  xAR (ok_ireturn (xdd xB_55 dX1_rest_42) rfl) <|
  xAe
theorem xe_55 {s0 : State} {A0 : Array Value} {D : va_G} {ta : Nat → ClassId} {l : Launch} : XAllC s0 A0 D ta l 55 xk_55 := ⟨xe_55_0, xe_55_1, trivial⟩
theorem xe_56_0 {s0 : State} {A0 : Array Value} {D : va_G} {ta : Nat → ClassId} {l : Launch} : XAll s0 A0 D ta l 56 xk_56_0 :=
  xA0 (ok_aload_n (xdd xB_56 dX1_builders_0) rfl rfl) <|
  xAK rfl (xC1 (ok_callV (xdd xB_56 dX1_builders_1) rfl xq_0 rfl xp_5_0 q477 q479 qs2 q111 q480) xC0) <|
  xA0 (ok_aload_n (xdd xB_56 dX1_builders_4) rfl rfl) <|
  xA0 (ok_aload_n (xdd xB_56 dX1_builders_5) rfl rfl) <|
  xA1 (ok_getA (xdd xB_56 dX1_builders_6) rfl (lk_f q403) rfl) <|
  xAB (ok_ifnull (xdd xB_56 dX1_builders_9) rfl rfl) <|
  xA0 (ok_iconst (xdd xB_56 dX1_builders_12) rfl rfl (xrg rfl)) <|
  xA0 (ok_goto (xdd xB_56 dX1_builders_13) rfl) <|
  xA0 (ok_iconst (xdd xB_56 dX1_builders_16) rfl rfl (xrg rfl)) <|
  xA0 (ok_iload_n (xdd xB_56 dX1_builders_17) rfl rfl) <|
  xA0 (ok_iload_n (xdd xB_56 dX1_builders_18) rfl rfl) <|
  xAK rfl (xC1 (ok_callV (xdd xB_56 dX1_builders_19) rfl xq_0 rfl xp_57_3 q1296 q1298 qs44 q111 q1299) xC0) <|
  xA0 (ok_istore_n (xdd xB_56 dX1_builders_22) rfl rfl) <|
  xA0 (ok_iload_n (xdd xB_56 dX1_builders_23) rfl rfl) <|
  xAB (ok_if_eq (xdd xB_56 dX1_builders_24) rfl rfl) <|
  xA0 (ok_aload_n (xdd xB_56 dX1_builders_27) rfl rfl) <|
  xA0 (ok_iload_n (xdd xB_56 dX1_builders_28) rfl rfl) <|
  xAK rfl (xC1 (ok_callV (xdd xB_56 dX1_builders_29) rfl xq_0 rfl xp_7_1 q484 q486 qs3 q111 q487) xC0) <|
  xAe
theorem xe_56_1 {s0 : State} {A0 : Array Value} {D : va_G} {ta : Nat → ClassId} {l : Launch} : XAll s0 A0 D ta l 56 xk_56_1 :=
  xA0 (ok_goto (xdd xB_56 dX1_builders_32) rfl) <|
  xA0 (ok_aload_n (xdd xB_56 dX1_builders_35) rfl rfl) <|
  xA1 (ok_getA (xdd xB_56 dX1_builders_36) rfl (lk_f q411) rfl) <|
  xAK rfl (xC1 (ok_callV (xdd xB_56 dX1_builders_39) rfl xq_3 rfl xp_109_0 q1023 q1024 q1025 q117 q1026) xC0) <|
  xAK rfl (xC1 (ok_callS (xdd xB_56 dX1_builders_42) rfl xp_44_1 q1256 q1229 q111 q1230) xC0) <|
  xAR (ok_ireturn (xdd xB_56 dX1_builders_45) rfl) <|
  xAe
theorem xe_56 {s0 : State} {A0 : Array Value} {D : va_G} {ta : Nat → ClassId} {l : Launch} : XAllC s0 A0 D ta l 56 xk_56 := ⟨xe_56_0, xe_56_1, trivial⟩
theorem xe_57_0 {s0 : State} {A0 : Array Value} {D : va_G} {ta : Nat → ClassId} {l : Launch} : XAll s0 A0 D ta l 57 xk_57_0 :=
  xA0 (ok_iload_n (xdd xB_57 dX1_buildWhy_0) rfl rfl) <|
  xAB (ok_if_ne (xdd xB_57 dX1_buildWhy_1) rfl rfl) <|
  xA0 (ok_iconst (xdd xB_57 dX1_buildWhy_4) rfl rfl (xrg rfl)) <|
  xAR (ok_ireturn (xdd xB_57 dX1_buildWhy_5) rfl) <|
  xA0 (ok_iload_n (xdd xB_57 dX1_buildWhy_6) rfl rfl) <|
  xA0 (ok_iconst (xdd xB_57 dX1_buildWhy_7) rfl rfl (xrg rfl)) <|
  xA0 (ok_ldcw (xdd xB_57 dX1_buildWhy_8) rfl q1300 rfl (xrg rfl)) <|
  xAK rfl (xC1 (ok_callS (xdd xB_57 dX1_buildWhy_11) rfl xp_6_3 q481 q482 q111 q483) xC0) <|
  xAB (ok_if_eq (xdd xB_57 dX1_buildWhy_14) rfl rfl) <|
  xA0 (ok_iload_n (xdd xB_57 dX1_buildWhy_17) rfl rfl) <|
  xA0 (ok_iconst (xdd xB_57 dX1_buildWhy_18) rfl rfl (xrg rfl)) <|
  xA0 (ok_bipush (xdd xB_57 dX1_buildWhy_19) rfl rfl (xrg rfl)) <|
  xAK rfl (xC1 (ok_callS (xdd xB_57 dX1_buildWhy_21) rfl xp_6_3 q481 q482 q111 q483) xC0) <|
  xAB (ok_if_ne (xdd xB_57 dX1_buildWhy_24) rfl rfl) <|
  xA0 (ok_iconst (xdd xB_57 dX1_buildWhy_27) rfl rfl (xrg rfl)) <|
  xAR (ok_ireturn (xdd xB_57 dX1_buildWhy_28) rfl) <|
  xA0 (ok_aload_n (xdd xB_57 dX1_buildWhy_29) rfl rfl) <|
  xA1 (ok_getA (xdd xB_57 dX1_buildWhy_30) rfl (lk_f q411) rfl) <|
  xAe
theorem xe_57_1 {s0 : State} {A0 : Array Value} {D : va_G} {ta : Nat → ClassId} {l : Launch} : XAll s0 A0 D ta l 57 xk_57_1 :=
  xA0 (ok_aload_n (xdd xB_57 dX1_buildWhy_33) rfl rfl) <|
  xA1 (ok_getA (xdd xB_57 dX1_buildWhy_34) rfl (lk_f q409) rfl) <|
  xAK rfl (xC1 (ok_callV (xdd xB_57 dX1_buildWhy_37) rfl xq_3 rfl xp_112_1 q1301 q1219 q1220 q117 q1221) xC0) <|
  xA0 (ok_iload_n (xdd xB_57 dX1_buildWhy_40) rfl rfl) <|
  xA0 (ok_istore (xdd xB_57 dX1_buildWhy_41) rfl) <|
  xA0 (ok_iconst (xdd xB_57 dX1_buildWhy_43) rfl rfl (xrg rfl)) <|
  xA0 (ok_istore (xdd xB_57 dX1_buildWhy_44) rfl) <|
  xA0 (ok_iload (xdd xB_57 dX1_buildWhy_46) rfl) <|
  xA0 (ok_iload_n (xdd xB_57 dX1_buildWhy_48) rfl rfl) <|
  xAB (ok_icmp_ge (xdd xB_57 dX1_buildWhy_49) rfl rfl) <|
  xA0 (ok_bipush (xdd xB_57 dX1_buildWhy_52) rfl rfl (xrg rfl)) <|
  xA0 (ok_iload (xdd xB_57 dX1_buildWhy_54) rfl) <|
  xA1 (ok_imul (xdd xB_57 dX1_buildWhy_56) rfl) <|
  xA0 (ok_bipush (xdd xB_57 dX1_buildWhy_57) rfl rfl (xrg rfl)) <|
  xA1 (ok_iadd (xdd xB_57 dX1_buildWhy_59) rfl) <|
  xA0 (ok_ldcw (xdd xB_57 dX1_buildWhy_60) rfl q1302 rfl (xrg rfl)) <|
  xA1 (ok_irem (xdd xB_57 dX1_buildWhy_63) rfl) <|
  xAe
theorem xe_57_2 {s0 : State} {A0 : Array Value} {D : va_G} {ta : Nat → ClassId} {l : Launch} : XAll s0 A0 D ta l 57 xk_57_2 :=
  xA0 (ok_istore (xdd xB_57 dX1_buildWhy_64) rfl) <|
  xA0 (ok_iload (xdd xB_57 dX1_buildWhy_66) rfl) <|
  xA0 (ok_aload_n (xdd xB_57 dX1_buildWhy_68) rfl rfl) <|
  xA1 (ok_getA (xdd xB_57 dX1_buildWhy_69) rfl (lk_f q403) rfl) <|
  xA1 (ok_getI (xdd xB_57 dX1_buildWhy_72) rfl (lk_f q528) (by decide)) <|
  xA1 (ok_irem (xdd xB_57 dX1_buildWhy_75) rfl) <|
  xA0 (ok_istore (xdd xB_57 dX1_buildWhy_76) rfl) <|
  xA0 (ok_bipush (xdd xB_57 dX1_buildWhy_78) rfl rfl (xrg rfl)) <|
  xA0 (ok_iload (xdd xB_57 dX1_buildWhy_80) rfl) <|
  xA1 (ok_imul (xdd xB_57 dX1_buildWhy_82) rfl) <|
  xA0 (ok_bipush (xdd xB_57 dX1_buildWhy_83) rfl rfl (xrg rfl)) <|
  xA1 (ok_iadd (xdd xB_57 dX1_buildWhy_85) rfl) <|
  xA0 (ok_ldcw (xdd xB_57 dX1_buildWhy_86) rfl q1302 rfl (xrg rfl)) <|
  xA1 (ok_irem (xdd xB_57 dX1_buildWhy_89) rfl) <|
  xA0 (ok_istore (xdd xB_57 dX1_buildWhy_90) rfl) <|
  xA0 (ok_iload (xdd xB_57 dX1_buildWhy_92) rfl) <|
  xA0 (ok_aload_n (xdd xB_57 dX1_buildWhy_94) rfl rfl) <|
  xA1 (ok_getA (xdd xB_57 dX1_buildWhy_95) rfl (lk_f q403) rfl) <|
  xAe
theorem xe_57_3 {s0 : State} {A0 : Array Value} {D : va_G} {ta : Nat → ClassId} {l : Launch} : XAll s0 A0 D ta l 57 xk_57_3 :=
  xA1 (ok_getI (xdd xB_57 dX1_buildWhy_98) rfl (lk_f q528) (by decide)) <|
  xA1 (ok_irem (xdd xB_57 dX1_buildWhy_101) rfl) <|
  xA0 (ok_istore (xdd xB_57 dX1_buildWhy_102) rfl) <|
  xA0 (ok_aload_n (xdd xB_57 dX1_buildWhy_104) rfl rfl) <|
  xA1 (ok_getA (xdd xB_57 dX1_buildWhy_105) rfl (lk_f q411) rfl) <|
  xA0 (ok_iload (xdd xB_57 dX1_buildWhy_108) rfl) <|
  xA0 (ok_iload (xdd xB_57 dX1_buildWhy_110) rfl) <|
  xAK rfl (xC1 (ok_callV (xdd xB_57 dX1_buildWhy_112) rfl xq_3 rfl xp_113_2 q1303 q1233 q1234 q117 q1235) xC0) <|
  xAB (ok_if_eq (xdd xB_57 dX1_buildWhy_115) rfl rfl) <|
  xA0 (ok_aload_n (xdd xB_57 dX1_buildWhy_118) rfl rfl) <|
  xA1 (ok_getA (xdd xB_57 dX1_buildWhy_119) rfl (lk_f q411) rfl) <|
  xA0 (ok_iload (xdd xB_57 dX1_buildWhy_122) rfl) <|
  xA0 (ok_iload (xdd xB_57 dX1_buildWhy_124) rfl) <|
  xAK rfl (xC1 (ok_callV (xdd xB_57 dX1_buildWhy_126) rfl xq_3 rfl xp_114_2 q1304 q1237 q1238 q117 q1239) xC0) <|
  xAe
theorem xe_57_4 {s0 : State} {A0 : Array Value} {D : va_G} {ta : Nat → ClassId} {l : Launch} : XAll s0 A0 D ta l 57 xk_57_4 :=
  xA1 (ok_iinc (xdd xB_57 dX1_buildWhy_129) rfl) <|
  xA0 (ok_goto (xdd xB_57 dX1_buildWhy_132) rfl) <|
  xA0 (ok_iconst (xdd xB_57 dX1_buildWhy_135) rfl rfl (xrg rfl)) <|
  xAR (ok_ireturn (xdd xB_57 dX1_buildWhy_136) rfl) <|
  xAe
theorem xe_57 {s0 : State} {A0 : Array Value} {D : va_G} {ta : Nat → ClassId} {l : Launch} : XAllC s0 A0 D ta l 57 xk_57 := ⟨xe_57_0, xe_57_1, xe_57_2, xe_57_3, xe_57_4, trivial⟩
theorem xe_58_0 {s0 : State} {A0 : Array Value} {D : va_G} {ta : Nat → ClassId} {l : Launch} : XAll s0 A0 D ta l 58 xk_58_0 :=
  xA0 (ok_aload_n (xdd xB_58 dX1_builtOf_0) rfl rfl) <|
  xAK rfl (xC1 (ok_callV (xdd xB_58 dX1_builtOf_1) rfl xq_0 rfl xp_5_0 q477 q479 qs2 q111 q480) xC0) <|
  xA0 (ok_aload_n (xdd xB_58 dX1_builtOf_4) rfl rfl) <|
  xA0 (ok_aload_n (xdd xB_58 dX1_builtOf_5) rfl rfl) <|
  xA0 (ok_iload_n (xdd xB_58 dX1_builtOf_6) rfl rfl) <|
  xAK rfl (xC1 (ok_callV (xdd xB_58 dX1_builtOf_7) rfl xq_0 rfl xp_11_1 q965 q967 qs27 q111 q968) xC0) <|
  xA0 (ok_iload_n (xdd xB_58 dX1_builtOf_10) rfl rfl) <|
  xA0 (ok_iload_n (xdd xB_58 dX1_builtOf_11) rfl rfl) <|
  xAK rfl (xC1 (ok_callV (xdd xB_58 dX1_builtOf_12) rfl xq_0 rfl xp_57_3 q1296 q1298 qs44 q111 q1299) xC0) <|
  xA0 (ok_istore (xdd xB_58 dX1_builtOf_15) rfl) <|
  xA0 (ok_iload (xdd xB_58 dX1_builtOf_17) rfl) <|
  xAB (ok_if_eq (xdd xB_58 dX1_builtOf_19) rfl rfl) <|
  xA0 (ok_aload_n (xdd xB_58 dX1_builtOf_22) rfl rfl) <|
  xA0 (ok_iload (xdd xB_58 dX1_builtOf_23) rfl) <|
  xAK rfl (xC1 (ok_callV (xdd xB_58 dX1_builtOf_25) rfl xq_0 rfl xp_7_1 q484 q486 qs3 q111 q487) xC0) <|
  xA0 (ok_goto (xdd xB_58 dX1_builtOf_28) rfl) <|
  xA0 (ok_aload_n (xdd xB_58 dX1_builtOf_31) rfl rfl) <|
  xAe
theorem xe_58_1 {s0 : State} {A0 : Array Value} {D : va_G} {ta : Nat → ClassId} {l : Launch} : XAll s0 A0 D ta l 58 xk_58_1 :=
  xA1 (ok_getA (xdd xB_58 dX1_builtOf_32) rfl (lk_f q411) rfl) <|
  xA1 (ok_getA (xdd xB_58 dX1_builtOf_35) rfl (lk_f q273) rfl) <|
  xA0 (ok_iload_n (xdd xB_58 dX1_builtOf_38) rfl rfl) <|
  xA1 (ok_iaload (xdd xB_58 dX1_builtOf_39) rfl) <|
  xAR (ok_ireturn (xdd xB_58 dX1_builtOf_40) rfl) <|
  xAe
theorem xe_58 {s0 : State} {A0 : Array Value} {D : va_G} {ta : Nat → ClassId} {l : Launch} : XAllC s0 A0 D ta l 58 xk_58 := ⟨xe_58_0, xe_58_1, trivial⟩
theorem xe_59_0 {s0 : State} {A0 : Array Value} {D : va_G} {ta : Nat → ClassId} {l : Launch} : XAll s0 A0 D ta l 59 xk_59_0 :=
  xA0 (ok_aload_n (xdd xB_59 dX1_exchange_0) rfl rfl) <|
  xA0 (ok_aload_n (xdd xB_59 dX1_exchange_1) rfl rfl) <|
  xA0 (ok_iload_n (xdd xB_59 dX1_exchange_2) rfl rfl) <|
  xAK rfl (xC1 (ok_callV (xdd xB_59 dX1_exchange_3) rfl xq_0 rfl xp_11_1 q965 q967 qs27 q111 q968) xC0) <|
  xAB (ok_if_eq (xdd xB_59 dX1_exchange_6) rfl rfl) <|
  xA0 (ok_aload_n (xdd xB_59 dX1_exchange_9) rfl rfl) <|
  xA0 (ok_iload_n (xdd xB_59 dX1_exchange_10) rfl rfl) <|
  xAK rfl (xC1 (ok_callV (xdd xB_59 dX1_exchange_11) rfl xq_0 rfl xp_11_1 q965 q967 qs27 q111 q968) xC0) <|
  xAB (ok_if_eq (xdd xB_59 dX1_exchange_14) rfl rfl) <|
  xA0 (ok_iload_n (xdd xB_59 dX1_exchange_17) rfl rfl) <|
  xA0 (ok_iload_n (xdd xB_59 dX1_exchange_18) rfl rfl) <|
  xAB (ok_icmp_ne (xdd xB_59 dX1_exchange_19) rfl rfl) <|
  xA0 (ok_iconst (xdd xB_59 dX1_exchange_22) rfl rfl (xrg rfl)) <|
  xA0 (ok_goto (xdd xB_59 dX1_exchange_23) rfl) <|
  xA0 (ok_aload_n (xdd xB_59 dX1_exchange_26) rfl rfl) <|
  xA1 (ok_getA (xdd xB_59 dX1_exchange_27) rfl (lk_f q409) rfl) <|
  xA0 (ok_iload_n (xdd xB_59 dX1_exchange_30) rfl rfl) <|
  xA0 (ok_iload_n (xdd xB_59 dX1_exchange_31) rfl rfl) <|
  xAe
theorem xe_59_1 {s0 : State} {A0 : Array Value} {D : va_G} {ta : Nat → ClassId} {l : Launch} : XAll s0 A0 D ta l 59 xk_59_1 :=
  xAK rfl (xC1 (ok_callV (xdd xB_59 dX1_exchange_32) rfl xq_3 rfl xp_113_2 q1303 q1233 q1234 q117 q1235) xC0) <|
  xAB (ok_if_ne (xdd xB_59 dX1_exchange_35) rfl rfl) <|
  xA0 (ok_iconst (xdd xB_59 dX1_exchange_38) rfl rfl (xrg rfl)) <|
  xA0 (ok_goto (xdd xB_59 dX1_exchange_39) rfl) <|
  xA0 (ok_iconst (xdd xB_59 dX1_exchange_42) rfl rfl (xrg rfl)) <|
  xAK rfl (xC1 (ok_callV (xdd xB_59 dX1_exchange_43) rfl xq_0 rfl xp_60_1 q1313 q1315 qs45 q111 q1316) xC0) <|
  xAB (ok_if_ne (xdd xB_59 dX1_exchange_46) rfl rfl) <|
  xA0 (ok_iconst (xdd xB_59 dX1_exchange_49) rfl rfl (xrg rfl)) <|
  xAR (ok_zreturn (xdd xB_59 dX1_exchange_50) rfl) <|
  xA0 (ok_aload_n (xdd xB_59 dX1_exchange_51) rfl rfl) <|
  xAK rfl (xC1 (ok_callV (xdd xB_59 dX1_exchange_52) rfl xq_0 rfl xp_61_0 q1317 q1319 qs46 q111 q1320) xC0) <|
  xA0 (ok_aload_n (xdd xB_59 dX1_exchange_55) rfl rfl) <|
  xA1 (ok_getA (xdd xB_59 dX1_exchange_56) rfl (lk_f q409) rfl) <|
  xA0 (ok_iload_n (xdd xB_59 dX1_exchange_59) rfl rfl) <|
  xA0 (ok_iload_n (xdd xB_59 dX1_exchange_60) rfl rfl) <|
  xAK rfl (xC1 (ok_callV (xdd xB_59 dX1_exchange_61) rfl xq_3 rfl xp_114_2 q1304 q1237 q1238 q117 q1239) xC0) <|
  xAe
theorem xe_59_2 {s0 : State} {A0 : Array Value} {D : va_G} {ta : Nat → ClassId} {l : Launch} : XAll s0 A0 D ta l 59 xk_59_2 :=
  xA0 (ok_aload_n (xdd xB_59 dX1_exchange_64) rfl rfl) <|
  xAK rfl (xC1 (ok_callV (xdd xB_59 dX1_exchange_65) rfl xq_0 rfl xp_62_0 q1321 q1323 qs47 q111 q1324) xC0) <|
  xAR (ok_zreturn (xdd xB_59 dX1_exchange_68) rfl) <|
  xAe
theorem xe_59 {s0 : State} {A0 : Array Value} {D : va_G} {ta : Nat → ClassId} {l : Launch} : XAllC s0 A0 D ta l 59 xk_59 := ⟨xe_59_0, xe_59_1, xe_59_2, trivial⟩
theorem xe_60_0 {s0 : State} {A0 : Array Value} {D : va_G} {ta : Nat → ClassId} {l : Launch} : XAll s0 A0 D ta l 60 xk_60_0 :=
  xA0 (ok_aload_n (xdd xB_60 dX1_yes_0) rfl rfl) <|
  xAK rfl (xC1 (ok_callV (xdd xB_60 dX1_yes_1) rfl xq_0 rfl xp_5_0 q477 q479 qs2 q111 q480) xC0) <|
  xA0 (ok_aload_n (xdd xB_60 dX1_yes_4) rfl rfl) <|
  xA0 (ok_iload_n (xdd xB_60 dX1_yes_5) rfl rfl) <|
  xA1 (ok_putI (xdd xB_60 dX1_yes_6) rfl (lk_f q404) rfl xfd_4 (Or.inl rfl)) <|
  xA0 (ok_iload_n (xdd xB_60 dX1_yes_9) rfl rfl) <|
  xAB (ok_if_ne (xdd xB_60 dX1_yes_10) rfl rfl) <|
  xA0 (ok_iconst (xdd xB_60 dX1_yes_13) rfl rfl (xrg rfl)) <|
  xA0 (ok_goto (xdd xB_60 dX1_yes_14) rfl) <|
  xA0 (ok_iconst (xdd xB_60 dX1_yes_17) rfl rfl (xrg rfl)) <|
  xAR (ok_zreturn (xdd xB_60 dX1_yes_18) rfl) <|
  xAe
theorem xe_60 {s0 : State} {A0 : Array Value} {D : va_G} {ta : Nat → ClassId} {l : Launch} : XAllC s0 A0 D ta l 60 xk_60 := ⟨xe_60_0, trivial⟩
theorem xe_61_0 {s0 : State} {A0 : Array Value} {D : va_G} {ta : Nat → ClassId} {l : Launch} : XAll s0 A0 D ta l 61 xk_61_0 :=
  xA0 (ok_aload_n (xdd xB_61 dX1_keep_0) rfl rfl) <|
  xA1 (ok_getA (xdd xB_61 dX1_keep_1) rfl (lk_f q410) rfl) <|
  xA0 (ok_aload_n (xdd xB_61 dX1_keep_4) rfl rfl) <|
  xA1 (ok_getA (xdd xB_61 dX1_keep_5) rfl (lk_f q409) rfl) <|
  xAK rfl (xC1 (ok_callV (xdd xB_61 dX1_keep_8) rfl xq_3 rfl xp_112_1 q1301 q1219 q1220 q117 q1221) xC0) <|
  xAR (ok_vreturn (xdd xB_61 dX1_keep_11) rfl) <|
  xAe
theorem xe_61 {s0 : State} {A0 : Array Value} {D : va_G} {ta : Nat → ClassId} {l : Launch} : XAllC s0 A0 D ta l 61 xk_61 := ⟨xe_61_0, trivial⟩
theorem xe_62_0 {s0 : State} {A0 : Array Value} {D : va_G} {ta : Nat → ClassId} {l : Launch} : XAll s0 A0 D ta l 62 xk_62_0 :=
  xA0 (ok_aload_n (xdd xB_62 dX1_done_0) rfl rfl) <|
  xA1 (ok_getI (xdd xB_62 dX1_done_1) rfl (lk_f q408) (by decide)) <|
  xA0 (ok_bipush (xdd xB_62 dX1_done_4) rfl rfl (xrg rfl)) <|
  xAB (ok_icmp_ne (xdd xB_62 dX1_done_6) rfl rfl) <|
  xA0 (ok_aload_n (xdd xB_62 dX1_done_9) rfl rfl) <|
  xA1 (ok_getA (xdd xB_62 dX1_done_10) rfl (lk_f q417) rfl) <|
  xA0 (ok_iconst (xdd xB_62 dX1_done_13) rfl rfl (xrg rfl)) <|
  xA1 (ok_aaload (xdd xB_62 dX1_done_14) rfl) <|
  xA0 (ok_astore_n (xdd xB_62 dX1_done_15) rfl rfl) <|
  xA0 (ok_iconst (xdd xB_62 dX1_done_16) rfl rfl (xrg rfl)) <|
  xA0 (ok_istore_n (xdd xB_62 dX1_done_17) rfl rfl) <|
  xA0 (ok_iload_n (xdd xB_62 dX1_done_18) rfl rfl) <|
  xA0 (ok_bipush (xdd xB_62 dX1_done_19) rfl rfl (xrg rfl)) <|
  xAB (ok_icmp_ge (xdd xB_62 dX1_done_21) rfl rfl) <|
  xA0 (ok_aload_n (xdd xB_62 dX1_done_24) rfl rfl) <|
  xA1 (ok_getA (xdd xB_62 dX1_done_25) rfl (lk_f q417) rfl) <|
  xA0 (ok_iload_n (xdd xB_62 dX1_done_28) rfl rfl) <|
  xA0 (ok_iconst (xdd xB_62 dX1_done_29) rfl rfl (xrg rfl)) <|
  xA1 (ok_isub (xdd xB_62 dX1_done_30) rfl) <|
  xA0 (ok_aload_n (xdd xB_62 dX1_done_31) rfl rfl) <|
  xAe
theorem xe_62_1 {s0 : State} {A0 : Array Value} {D : va_G} {ta : Nat → ClassId} {l : Launch} : XAll s0 A0 D ta l 62 xk_62_1 :=
  xA1 (ok_getA (xdd xB_62 dX1_done_32) rfl (lk_f q417) rfl) <|
  xA0 (ok_iload_n (xdd xB_62 dX1_done_35) rfl rfl) <|
  xA1 (ok_aaload (xdd xB_62 dX1_done_36) rfl) <|
  xA1 (ok_aastore (xdd xB_62 dX1_done_37) rfl) <|
  xA1 (ok_iinc (xdd xB_62 dX1_done_38) rfl) <|
  xA0 (ok_goto (xdd xB_62 dX1_done_41) rfl) <|
  xA0 (ok_aload_n (xdd xB_62 dX1_done_44) rfl rfl) <|
  xA1 (ok_getA (xdd xB_62 dX1_done_45) rfl (lk_f q417) rfl) <|
  xA0 (ok_bipush (xdd xB_62 dX1_done_48) rfl rfl (xrg rfl)) <|
  xA0 (ok_aload_n (xdd xB_62 dX1_done_50) rfl rfl) <|
  xA1 (ok_aastore (xdd xB_62 dX1_done_51) rfl) <|
  xA0 (ok_aload_n (xdd xB_62 dX1_done_52) rfl rfl) <|
  xA0 (ok_dup (xdd xB_62 dX1_done_53) rfl) <|
  xA1 (ok_getI (xdd xB_62 dX1_done_54) rfl (lk_f q408) (by decide)) <|
  xA0 (ok_iconst (xdd xB_62 dX1_done_57) rfl rfl (xrg rfl)) <|
  xA1 (ok_isub (xdd xB_62 dX1_done_58) rfl) <|
  xA1 (ok_putI (xdd xB_62 dX1_done_59) rfl (lk_f q408) rfl xfd_8 (Or.inl rfl)) <|
  xA0 (ok_aload_n (xdd xB_62 dX1_done_62) rfl rfl) <|
  xA1 (ok_getA (xdd xB_62 dX1_done_63) rfl (lk_f q417) rfl) <|
  xAe
theorem xe_62_2 {s0 : State} {A0 : Array Value} {D : va_G} {ta : Nat → ClassId} {l : Launch} : XAll s0 A0 D ta l 62 xk_62_2 :=
  xA0 (ok_aload_n (xdd xB_62 dX1_done_66) rfl rfl) <|
  xA1 (ok_getI (xdd xB_62 dX1_done_67) rfl (lk_f q408) (by decide)) <|
  xA1 (ok_aaload (xdd xB_62 dX1_done_70) rfl) <|
  xA0 (ok_aload_n (xdd xB_62 dX1_done_71) rfl rfl) <|
  xA1 (ok_getA (xdd xB_62 dX1_done_72) rfl (lk_f q410) rfl) <|
  xAK rfl (xC1 (ok_callV (xdd xB_62 dX1_done_75) rfl xq_3 rfl xp_112_1 q1301 q1219 q1220 q117 q1221) xC0) <|
  xA0 (ok_aload_n (xdd xB_62 dX1_done_78) rfl rfl) <|
  xA0 (ok_dup (xdd xB_62 dX1_done_79) rfl) <|
  xA1 (ok_getI (xdd xB_62 dX1_done_80) rfl (lk_f q408) (by decide)) <|
  xA0 (ok_iconst (xdd xB_62 dX1_done_83) rfl rfl (xrg rfl)) <|
  xA1 (ok_iadd (xdd xB_62 dX1_done_84) rfl) <|
  xA1 (ok_putI (xdd xB_62 dX1_done_85) rfl (lk_f q408) rfl xfd_8 (Or.inl rfl)) <|
  xA0 (ok_iconst (xdd xB_62 dX1_done_88) rfl rfl (xrg rfl)) <|
  xAR (ok_zreturn (xdd xB_62 dX1_done_89) rfl) <|
  xAe
theorem xe_62 {s0 : State} {A0 : Array Value} {D : va_G} {ta : Nat → ClassId} {l : Launch} : XAllC s0 A0 D ta l 62 xk_62 := ⟨xe_62_0, xe_62_1, xe_62_2, trivial⟩
theorem xe_63_0 {s0 : State} {A0 : Array Value} {D : va_G} {ta : Nat → ClassId} {l : Launch} : XAll s0 A0 D ta l 63 xk_63_0 :=
  xA0 (ok_aload_n (xdd xB_63 dX1_shut_0) rfl rfl) <|
  xA0 (ok_aload_n (xdd xB_63 dX1_shut_1) rfl rfl) <|
  xA0 (ok_iload_n (xdd xB_63 dX1_shut_2) rfl rfl) <|
  xAK rfl (xC1 (ok_callV (xdd xB_63 dX1_shut_3) rfl xq_0 rfl xp_11_1 q965 q967 qs27 q111 q968) xC0) <|
  xAB (ok_if_ne (xdd xB_63 dX1_shut_6) rfl rfl) <|
  xA0 (ok_iconst (xdd xB_63 dX1_shut_9) rfl rfl (xrg rfl)) <|
  xA0 (ok_goto (xdd xB_63 dX1_shut_10) rfl) <|
  xA0 (ok_aload_n (xdd xB_63 dX1_shut_13) rfl rfl) <|
  xA1 (ok_getA (xdd xB_63 dX1_shut_14) rfl (lk_f q409) rfl) <|
  xA1 (ok_getI (xdd xB_63 dX1_shut_17) rfl (lk_f q280) (by decide)) <|
  xA0 (ok_iload_n (xdd xB_63 dX1_shut_20) rfl rfl) <|
  xAK rfl (xC1 (ok_callS (xdd xB_63 dX1_shut_21) rfl xp_12_2 q973 q974 q111 q975) xC0) <|
  xA0 (ok_iload_n (xdd xB_63 dX1_shut_24) rfl rfl) <|
  xAB (ok_icmp_ne (xdd xB_63 dX1_shut_25) rfl rfl) <|
  xA0 (ok_iconst (xdd xB_63 dX1_shut_28) rfl rfl (xrg rfl)) <|
  xA0 (ok_goto (xdd xB_63 dX1_shut_29) rfl) <|
  xAe
theorem xe_63_1 {s0 : State} {A0 : Array Value} {D : va_G} {ta : Nat → ClassId} {l : Launch} : XAll s0 A0 D ta l 63 xk_63_1 :=
  xA0 (ok_iconst (xdd xB_63 dX1_shut_32) rfl rfl (xrg rfl)) <|
  xAK rfl (xC1 (ok_callV (xdd xB_63 dX1_shut_33) rfl xq_0 rfl xp_60_1 q1313 q1315 qs45 q111 q1316) xC0) <|
  xAB (ok_if_ne (xdd xB_63 dX1_shut_36) rfl rfl) <|
  xA0 (ok_iconst (xdd xB_63 dX1_shut_39) rfl rfl (xrg rfl)) <|
  xAR (ok_zreturn (xdd xB_63 dX1_shut_40) rfl) <|
  xA0 (ok_aload_n (xdd xB_63 dX1_shut_41) rfl rfl) <|
  xAK rfl (xC1 (ok_callV (xdd xB_63 dX1_shut_42) rfl xq_0 rfl xp_61_0 q1317 q1319 qs46 q111 q1320) xC0) <|
  xA0 (ok_aload_n (xdd xB_63 dX1_shut_45) rfl rfl) <|
  xA1 (ok_getA (xdd xB_63 dX1_shut_46) rfl (lk_f q409) rfl) <|
  xA0 (ok_dup (xdd xB_63 dX1_shut_49) rfl) <|
  xA1 (ok_getI (xdd xB_63 dX1_shut_50) rfl (lk_f q280) (by decide)) <|
  xA0 (ok_iconst (xdd xB_63 dX1_shut_53) rfl rfl (xrg rfl)) <|
  xA0 (ok_iload_n (xdd xB_63 dX1_shut_54) rfl rfl) <|
  xA1 (ok_ishl (xdd xB_63 dX1_shut_55) rfl) <|
  xA0 (ok_ixor (xdd xB_63 dX1_shut_56) rfl) <|
  xA1 (ok_putI (xdd xB_63 dX1_shut_57) rfl (lk_f q280) rfl xfd_44 (Or.inl rfl)) <|
  xA0 (ok_aload_n (xdd xB_63 dX1_shut_60) rfl rfl) <|
  xAK rfl (xC1 (ok_callV (xdd xB_63 dX1_shut_61) rfl xq_0 rfl xp_62_0 q1321 q1323 qs47 q111 q1324) xC0) <|
  xAe
theorem xe_63_2 {s0 : State} {A0 : Array Value} {D : va_G} {ta : Nat → ClassId} {l : Launch} : XAll s0 A0 D ta l 63 xk_63_2 :=
  xAR (ok_zreturn (xdd xB_63 dX1_shut_64) rfl) <|
  xAe
theorem xe_63 {s0 : State} {A0 : Array Value} {D : va_G} {ta : Nat → ClassId} {l : Launch} : XAllC s0 A0 D ta l 63 xk_63 := ⟨xe_63_0, xe_63_1, xe_63_2, trivial⟩
theorem xe_64_0 {s0 : State} {A0 : Array Value} {D : va_G} {ta : Nat → ClassId} {l : Launch} : XAll s0 A0 D ta l 64 xk_64_0 :=
  xA0 (ok_aload_n (xdd xB_64 dX1_go_0) rfl rfl) <|
  xAK rfl (xC1 (ok_callV (xdd xB_64 dX1_go_1) rfl xq_0 rfl xp_5_0 q477 q479 qs2 q111 q480) xC0) <|
  xA0 (ok_aload_n (xdd xB_64 dX1_go_4) rfl rfl) <|
  xA0 (ok_iload_n (xdd xB_64 dX1_go_5) rfl rfl) <|
  xAK rfl (xC1 (ok_callV (xdd xB_64 dX1_go_6) rfl xq_0 rfl xp_17_1 q1003 q1005 qs29 q111 q1006) xC0) <|
  xAB (ok_if_eq (xdd xB_64 dX1_go_9) rfl rfl) <|
  xA0 (ok_aload_n (xdd xB_64 dX1_go_12) rfl rfl) <|
  xA0 (ok_iload_n (xdd xB_64 dX1_go_13) rfl rfl) <|
  xAK rfl (xC1 (ok_callV (xdd xB_64 dX1_go_14) rfl xq_0 rfl xp_11_1 q965 q967 qs27 q111 q968) xC0) <|
  xAB (ok_if_ne (xdd xB_64 dX1_go_17) rfl rfl) <|
  xA0 (ok_aload_n (xdd xB_64 dX1_go_20) rfl rfl) <|
  xA0 (ok_iconst (xdd xB_64 dX1_go_21) rfl rfl (xrg rfl)) <|
  xAK rfl (xC1 (ok_callV (xdd xB_64 dX1_go_22) rfl xq_0 rfl xp_7_1 q484 q486 qs3 q111 q487) xC0) <|
  xAR (ok_ireturn (xdd xB_64 dX1_go_25) rfl) <|
  xA0 (ok_aload_n (xdd xB_64 dX1_go_26) rfl rfl) <|
  xA1 (ok_getA (xdd xB_64 dX1_go_27) rfl (lk_f q409) rfl) <|
  xA0 (ok_aload_n (xdd xB_64 dX1_go_30) rfl rfl) <|
  xA1 (ok_getA (xdd xB_64 dX1_go_31) rfl (lk_f q409) rfl) <|
  xAe
theorem xe_64_1 {s0 : State} {A0 : Array Value} {D : va_G} {ta : Nat → ClassId} {l : Launch} : XAll s0 A0 D ta l 64 xk_64_1 :=
  xA1 (ok_getA (xdd xB_64 dX1_go_34) rfl (lk_f q275) rfl) <|
  xA0 (ok_iload_n (xdd xB_64 dX1_go_37) rfl rfl) <|
  xA1 (ok_iaload (xdd xB_64 dX1_go_38) rfl) <|
  xA0 (ok_iload_n (xdd xB_64 dX1_go_39) rfl rfl) <|
  xA0 (ok_aload_n (xdd xB_64 dX1_go_40) rfl rfl) <|
  xA1 (ok_getA (xdd xB_64 dX1_go_41) rfl (lk_f q409) rfl) <|
  xA1 (ok_getA (xdd xB_64 dX1_go_44) rfl (lk_f q277) rfl) <|
  xA0 (ok_iload_n (xdd xB_64 dX1_go_47) rfl rfl) <|
  xA1 (ok_iaload (xdd xB_64 dX1_go_48) rfl) <|
  xAK rfl (xC1 (ok_callV (xdd xB_64 dX1_go_49) rfl xq_3 rfl xp_115_3 q1333 q1334 q1335 q117 q1336) xC0) <|
  xA0 (ok_istore_n (xdd xB_64 dX1_go_52) rfl rfl) <|
  xA0 (ok_iload_n (xdd xB_64 dX1_go_53) rfl rfl) <|
  xA0 (ok_ldc (xdd xB_64 dX1_go_54) rfl q1092 rfl (xrg rfl)) <|
  xAB (ok_icmp_ne (xdd xB_64 dX1_go_56) rfl rfl) <|
  xA0 (ok_aload_n (xdd xB_64 dX1_go_59) rfl rfl) <|
  xA0 (ok_iconst (xdd xB_64 dX1_go_60) rfl rfl (xrg rfl)) <|
  xAK rfl (xC1 (ok_callV (xdd xB_64 dX1_go_61) rfl xq_0 rfl xp_7_1 q484 q486 qs3 q111 q487) xC0) <|
  xAe
theorem xe_64_2 {s0 : State} {A0 : Array Value} {D : va_G} {ta : Nat → ClassId} {l : Launch} : XAll s0 A0 D ta l 64 xk_64_2 :=
  xAR (ok_ireturn (xdd xB_64 dX1_go_64) rfl) <|
  xA0 (ok_aload_n (xdd xB_64 dX1_go_65) rfl rfl) <|
  xAK rfl (xC1 (ok_callV (xdd xB_64 dX1_go_66) rfl xq_0 rfl xp_61_0 q1317 q1319 qs46 q111 q1320) xC0) <|
  xA0 (ok_aload_n (xdd xB_64 dX1_go_69) rfl rfl) <|
  xA1 (ok_getA (xdd xB_64 dX1_go_70) rfl (lk_f q409) rfl) <|
  xA1 (ok_getA (xdd xB_64 dX1_go_73) rfl (lk_f q275) rfl) <|
  xA0 (ok_iload_n (xdd xB_64 dX1_go_76) rfl rfl) <|
  xA0 (ok_iload_n (xdd xB_64 dX1_go_77) rfl rfl) <|
  xA1 (ok_iastore (xdd xB_64 dX1_go_78) rfl) <|
  xA0 (ok_aload_n (xdd xB_64 dX1_go_79) rfl rfl) <|
  xA1 (ok_getA (xdd xB_64 dX1_go_80) rfl (lk_f q409) rfl) <|
  xA1 (ok_getA (xdd xB_64 dX1_go_83) rfl (lk_f q277) rfl) <|
  xA0 (ok_iload_n (xdd xB_64 dX1_go_86) rfl rfl) <|
  xA0 (ok_iload_n (xdd xB_64 dX1_go_87) rfl rfl) <|
  xA1 (ok_iastore (xdd xB_64 dX1_go_88) rfl) <|
  xA0 (ok_aload_n (xdd xB_64 dX1_go_89) rfl rfl) <|
  xAK rfl (xC1 (ok_callV (xdd xB_64 dX1_go_90) rfl xq_0 rfl xp_62_0 q1321 q1323 qs47 q111 q1324) xC0) <|
  xA0 (ok_pop (xdd xB_64 dX1_go_93) rfl) <|
  xA0 (ok_iload_n (xdd xB_64 dX1_go_94) rfl rfl) <|
  xAR (ok_ireturn (xdd xB_64 dX1_go_95) rfl) <|
  xAe
theorem xe_64 {s0 : State} {A0 : Array Value} {D : va_G} {ta : Nat → ClassId} {l : Launch} : XAllC s0 A0 D ta l 64 xk_64 := ⟨xe_64_0, xe_64_1, xe_64_2, trivial⟩
theorem xe_65_0 {s0 : State} {A0 : Array Value} {D : va_G} {ta : Nat → ClassId} {l : Launch} : XAll s0 A0 D ta l 65 xk_65_0 :=
  xA0 (ok_aload_n (xdd xB_65 dX1_waits_0) rfl rfl) <|
  xAK rfl (xC1 (ok_callV (xdd xB_65 dX1_waits_1) rfl xq_0 rfl xp_5_0 q477 q479 qs2 q111 q480) xC0) <|
  xA0 (ok_aload_n (xdd xB_65 dX1_waits_4) rfl rfl) <|
  xA0 (ok_iload_n (xdd xB_65 dX1_waits_5) rfl rfl) <|
  xAK rfl (xC1 (ok_callV (xdd xB_65 dX1_waits_6) rfl xq_0 rfl xp_17_1 q1003 q1005 qs29 q111 q1006) xC0) <|
  xAB (ok_if_ne (xdd xB_65 dX1_waits_9) rfl rfl) <|
  xA0 (ok_aload_n (xdd xB_65 dX1_waits_12) rfl rfl) <|
  xA0 (ok_iconst (xdd xB_65 dX1_waits_13) rfl rfl (xrg rfl)) <|
  xAK rfl (xC1 (ok_callV (xdd xB_65 dX1_waits_14) rfl xq_0 rfl xp_7_1 q484 q486 qs3 q111 q487) xC0) <|
  xAR (ok_ireturn (xdd xB_65 dX1_waits_17) rfl) <|
  xA0 (ok_iload_n (xdd xB_65 dX1_waits_18) rfl rfl) <|
  xA0 (ok_iconst (xdd xB_65 dX1_waits_19) rfl rfl (xrg rfl)) <|
  xA0 (ok_sipush (xdd xB_65 dX1_waits_20) rfl rfl (xrg rfl)) <|
  xAK rfl (xC1 (ok_callS (xdd xB_65 dX1_waits_23) rfl xp_6_3 q481 q482 q111 q483) xC0) <|
  xAB (ok_if_ne (xdd xB_65 dX1_waits_26) rfl rfl) <|
  xA0 (ok_aload_n (xdd xB_65 dX1_waits_29) rfl rfl) <|
  xA0 (ok_iconst (xdd xB_65 dX1_waits_30) rfl rfl (xrg rfl)) <|
  xAK rfl (xC1 (ok_callV (xdd xB_65 dX1_waits_31) rfl xq_0 rfl xp_7_1 q484 q486 qs3 q111 q487) xC0) <|
  xAe
theorem xe_65_1 {s0 : State} {A0 : Array Value} {D : va_G} {ta : Nat → ClassId} {l : Launch} : XAll s0 A0 D ta l 65 xk_65_1 :=
  xAR (ok_ireturn (xdd xB_65 dX1_waits_34) rfl) <|
  xA0 (ok_aload_n (xdd xB_65 dX1_waits_35) rfl rfl) <|
  xAK rfl (xC1 (ok_callV (xdd xB_65 dX1_waits_36) rfl xq_0 rfl xp_61_0 q1317 q1319 qs46 q111 q1320) xC0) <|
  xA0 (ok_aload_n (xdd xB_65 dX1_waits_39) rfl rfl) <|
  xA1 (ok_getA (xdd xB_65 dX1_waits_40) rfl (lk_f q409) rfl) <|
  xA1 (ok_getA (xdd xB_65 dX1_waits_43) rfl (lk_f q277) rfl) <|
  xA0 (ok_iload_n (xdd xB_65 dX1_waits_46) rfl rfl) <|
  xA0 (ok_dup2 (xdd xB_65 dX1_waits_47) rfl) <|
  xA1 (ok_iaload (xdd xB_65 dX1_waits_48) rfl) <|
  xA0 (ok_iload_n (xdd xB_65 dX1_waits_49) rfl rfl) <|
  xA1 (ok_iadd (xdd xB_65 dX1_waits_50) rfl) <|
  xA1 (ok_iastore (xdd xB_65 dX1_waits_51) rfl) <|
  xA0 (ok_aload_n (xdd xB_65 dX1_waits_52) rfl rfl) <|
  xAK rfl (xC1 (ok_callV (xdd xB_65 dX1_waits_53) rfl xq_0 rfl xp_62_0 q1321 q1323 qs47 q111 q1324) xC0) <|
  xA0 (ok_pop (xdd xB_65 dX1_waits_56) rfl) <|
  xA0 (ok_aload_n (xdd xB_65 dX1_waits_57) rfl rfl) <|
  xA1 (ok_getA (xdd xB_65 dX1_waits_58) rfl (lk_f q409) rfl) <|
  xA1 (ok_getA (xdd xB_65 dX1_waits_61) rfl (lk_f q277) rfl) <|
  xAe
theorem xe_65_2 {s0 : State} {A0 : Array Value} {D : va_G} {ta : Nat → ClassId} {l : Launch} : XAll s0 A0 D ta l 65 xk_65_2 :=
  xA0 (ok_iload_n (xdd xB_65 dX1_waits_64) rfl rfl) <|
  xA1 (ok_iaload (xdd xB_65 dX1_waits_65) rfl) <|
  xAR (ok_ireturn (xdd xB_65 dX1_waits_66) rfl) <|
  xAe
theorem xe_65 {s0 : State} {A0 : Array Value} {D : va_G} {ta : Nat → ClassId} {l : Launch} : XAllC s0 A0 D ta l 65 xk_65 := ⟨xe_65_0, xe_65_1, xe_65_2, trivial⟩
theorem xe_66_0 {s0 : State} {A0 : Array Value} {D : va_G} {ta : Nat → ClassId} {l : Launch} : XAll s0 A0 D ta l 66 xk_66_0 :=
  xA0 (ok_aload_n (xdd xB_66 dX1_undo_0) rfl rfl) <|
  xA0 (ok_aload_n (xdd xB_66 dX1_undo_1) rfl rfl) <|
  xA1 (ok_getI (xdd xB_66 dX1_undo_2) rfl (lk_f q408) (by decide)) <|
  xAB (ok_if_ne (xdd xB_66 dX1_undo_5) rfl rfl) <|
  xA0 (ok_bipush (xdd xB_66 dX1_undo_8) rfl rfl (xrg rfl)) <|
  xA0 (ok_goto (xdd xB_66 dX1_undo_10) rfl) <|
  xA0 (ok_iconst (xdd xB_66 dX1_undo_13) rfl rfl (xrg rfl)) <|
  xAK rfl (xC1 (ok_callV (xdd xB_66 dX1_undo_14) rfl xq_0 rfl xp_60_1 q1313 q1315 qs45 q111 q1316) xC0) <|
  xAB (ok_if_ne (xdd xB_66 dX1_undo_17) rfl rfl) <|
  xA0 (ok_iconst (xdd xB_66 dX1_undo_20) rfl rfl (xrg rfl)) <|
  xAR (ok_zreturn (xdd xB_66 dX1_undo_21) rfl) <|
  xA0 (ok_aload_n (xdd xB_66 dX1_undo_22) rfl rfl) <|
  xA0 (ok_dup (xdd xB_66 dX1_undo_23) rfl) <|
  xA1 (ok_getI (xdd xB_66 dX1_undo_24) rfl (lk_f q408) (by decide)) <|
  xA0 (ok_iconst (xdd xB_66 dX1_undo_27) rfl rfl (xrg rfl)) <|
  xA1 (ok_isub (xdd xB_66 dX1_undo_28) rfl) <|
  xA1 (ok_putI (xdd xB_66 dX1_undo_29) rfl (lk_f q408) rfl xfd_8 (Or.inl rfl)) <|
  xAe
theorem xe_66_1 {s0 : State} {A0 : Array Value} {D : va_G} {ta : Nat → ClassId} {l : Launch} : XAll s0 A0 D ta l 66 xk_66_1 :=
  xA0 (ok_aload_n (xdd xB_66 dX1_undo_32) rfl rfl) <|
  xA1 (ok_getA (xdd xB_66 dX1_undo_33) rfl (lk_f q409) rfl) <|
  xA0 (ok_aload_n (xdd xB_66 dX1_undo_36) rfl rfl) <|
  xA1 (ok_getA (xdd xB_66 dX1_undo_37) rfl (lk_f q417) rfl) <|
  xA0 (ok_aload_n (xdd xB_66 dX1_undo_40) rfl rfl) <|
  xA1 (ok_getI (xdd xB_66 dX1_undo_41) rfl (lk_f q408) (by decide)) <|
  xA1 (ok_aaload (xdd xB_66 dX1_undo_44) rfl) <|
  xAK rfl (xC1 (ok_callV (xdd xB_66 dX1_undo_45) rfl xq_3 rfl xp_112_1 q1301 q1219 q1220 q117 q1221) xC0) <|
  xA0 (ok_iconst (xdd xB_66 dX1_undo_48) rfl rfl (xrg rfl)) <|
  xAR (ok_zreturn (xdd xB_66 dX1_undo_49) rfl) <|
  xAe
theorem xe_66 {s0 : State} {A0 : Array Value} {D : va_G} {ta : Nat → ClassId} {l : Launch} : XAllC s0 A0 D ta l 66 xk_66 := ⟨xe_66_0, xe_66_1, trivial⟩
theorem xe_67_0 {s0 : State} {A0 : Array Value} {D : va_G} {ta : Nat → ClassId} {l : Launch} : XAll s0 A0 D ta l 67 xk_67_0 :=
  xA0 (ok_aload_n (xdd xB_67 dX1_mark_0) rfl rfl) <|
  xAK rfl (xC1 (ok_callV (xdd xB_67 dX1_mark_1) rfl xq_0 rfl xp_5_0 q477 q479 qs2 q111 q480) xC0) <|
  xA0 (ok_aload_n (xdd xB_67 dX1_mark_4) rfl rfl) <|
  xA1 (ok_getA (xdd xB_67 dX1_mark_5) rfl (lk_f q403) rfl) <|
  xAB (ok_ifnonnull (xdd xB_67 dX1_mark_8) rfl rfl) <|
  xA0 (ok_aload_n (xdd xB_67 dX1_mark_11) rfl rfl) <|
  xA0 (ok_iconst (xdd xB_67 dX1_mark_12) rfl rfl (xrg rfl)) <|
  xAK rfl (xC1 (ok_callV (xdd xB_67 dX1_mark_13) rfl xq_0 rfl xp_7_1 q484 q486 qs3 q111 q487) xC0) <|
  xAR (ok_ireturn (xdd xB_67 dX1_mark_16) rfl) <|
  xA0 (ok_aload_n (xdd xB_67 dX1_mark_17) rfl rfl) <|
  xA1 (ok_getI (xdd xB_67 dX1_mark_18) rfl (lk_f q407) (by decide)) <|
  xA0 (ok_iconst (xdd xB_67 dX1_mark_21) rfl rfl (xrg rfl)) <|
  xAB (ok_icmp_ne (xdd xB_67 dX1_mark_22) rfl rfl) <|
  xA0 (ok_aload_n (xdd xB_67 dX1_mark_25) rfl rfl) <|
  xA0 (ok_iconst (xdd xB_67 dX1_mark_26) rfl rfl (xrg rfl)) <|
  xAK rfl (xC1 (ok_callV (xdd xB_67 dX1_mark_27) rfl xq_0 rfl xp_7_1 q484 q486 qs3 q111 q487) xC0) <|
  xAR (ok_ireturn (xdd xB_67 dX1_mark_30) rfl) <|
  xA0 (ok_aload_n (xdd xB_67 dX1_mark_31) rfl rfl) <|
  xAe
theorem xe_67_1 {s0 : State} {A0 : Array Value} {D : va_G} {ta : Nat → ClassId} {l : Launch} : XAll s0 A0 D ta l 67 xk_67_1 :=
  xA1 (ok_getA (xdd xB_67 dX1_mark_32) rfl (lk_f q418) rfl) <|
  xA0 (ok_aload_n (xdd xB_67 dX1_mark_35) rfl rfl) <|
  xA1 (ok_getI (xdd xB_67 dX1_mark_36) rfl (lk_f q407) (by decide)) <|
  xA1 (ok_aaload (xdd xB_67 dX1_mark_39) rfl) <|
  xA0 (ok_aload_n (xdd xB_67 dX1_mark_40) rfl rfl) <|
  xA1 (ok_getA (xdd xB_67 dX1_mark_41) rfl (lk_f q409) rfl) <|
  xAK rfl (xC1 (ok_callV (xdd xB_67 dX1_mark_44) rfl xq_3 rfl xp_112_1 q1301 q1219 q1220 q117 q1221) xC0) <|
  xA0 (ok_aload_n (xdd xB_67 dX1_mark_47) rfl rfl) <|
  xA0 (ok_dup (xdd xB_67 dX1_mark_48) rfl) <|
  xA1 (ok_getI (xdd xB_67 dX1_mark_49) rfl (lk_f q407) (by decide)) <|
  xA0 (ok_iconst (xdd xB_67 dX1_mark_52) rfl rfl (xrg rfl)) <|
  xA1 (ok_iadd (xdd xB_67 dX1_mark_53) rfl) <|
  xA1 (ok_putI (xdd xB_67 dX1_mark_54) rfl (lk_f q407) rfl xfd_7 (Or.inl rfl)) <|
  xA0 (ok_aload_n (xdd xB_67 dX1_mark_57) rfl rfl) <|
  xA1 (ok_getI (xdd xB_67 dX1_mark_58) rfl (lk_f q407) (by decide)) <|
  xA0 (ok_iconst (xdd xB_67 dX1_mark_61) rfl rfl (xrg rfl)) <|
  xA1 (ok_isub (xdd xB_67 dX1_mark_62) rfl) <|
  xAR (ok_ireturn (xdd xB_67 dX1_mark_63) rfl) <|
  xAe
theorem xe_67 {s0 : State} {A0 : Array Value} {D : va_G} {ta : Nat → ClassId} {l : Launch} : XAllC s0 A0 D ta l 67 xk_67 := ⟨xe_67_0, xe_67_1, trivial⟩
theorem xe_68_0 {s0 : State} {A0 : Array Value} {D : va_G} {ta : Nat → ClassId} {l : Launch} : XAll s0 A0 D ta l 68 xk_68_0 :=
  xA0 (ok_aload_n (xdd xB_68 dX1_back_0) rfl rfl) <|
  xA0 (ok_iload_n (xdd xB_68 dX1_back_1) rfl rfl) <|
  xA0 (ok_iconst (xdd xB_68 dX1_back_2) rfl rfl (xrg rfl)) <|
  xA0 (ok_aload_n (xdd xB_68 dX1_back_3) rfl rfl) <|
  xA1 (ok_getI (xdd xB_68 dX1_back_4) rfl (lk_f q407) (by decide)) <|
  xA0 (ok_iconst (xdd xB_68 dX1_back_7) rfl rfl (xrg rfl)) <|
  xA1 (ok_isub (xdd xB_68 dX1_back_8) rfl) <|
  xAK rfl (xC1 (ok_callS (xdd xB_68 dX1_back_9) rfl xp_6_3 q481 q482 q111 q483) xC0) <|
  xAB (ok_if_eq (xdd xB_68 dX1_back_12) rfl rfl) <|
  xA0 (ok_iconst (xdd xB_68 dX1_back_15) rfl rfl (xrg rfl)) <|
  xA0 (ok_goto (xdd xB_68 dX1_back_16) rfl) <|
  xA0 (ok_iconst (xdd xB_68 dX1_back_19) rfl rfl (xrg rfl)) <|
  xAK rfl (xC1 (ok_callV (xdd xB_68 dX1_back_20) rfl xq_0 rfl xp_60_1 q1313 q1315 qs45 q111 q1316) xC0) <|
  xAB (ok_if_ne (xdd xB_68 dX1_back_23) rfl rfl) <|
  xA0 (ok_iconst (xdd xB_68 dX1_back_26) rfl rfl (xrg rfl)) <|
  xAR (ok_zreturn (xdd xB_68 dX1_back_27) rfl) <|
  xA0 (ok_aload_n (xdd xB_68 dX1_back_28) rfl rfl) <|
  xA1 (ok_getA (xdd xB_68 dX1_back_29) rfl (lk_f q409) rfl) <|
  xAe
theorem xe_68_1 {s0 : State} {A0 : Array Value} {D : va_G} {ta : Nat → ClassId} {l : Launch} : XAll s0 A0 D ta l 68 xk_68_1 :=
  xA0 (ok_aload_n (xdd xB_68 dX1_back_32) rfl rfl) <|
  xA1 (ok_getA (xdd xB_68 dX1_back_33) rfl (lk_f q418) rfl) <|
  xA0 (ok_iload_n (xdd xB_68 dX1_back_36) rfl rfl) <|
  xA1 (ok_aaload (xdd xB_68 dX1_back_37) rfl) <|
  xAK rfl (xC1 (ok_callV (xdd xB_68 dX1_back_38) rfl xq_3 rfl xp_112_1 q1301 q1219 q1220 q117 q1221) xC0) <|
  xA0 (ok_aload_n (xdd xB_68 dX1_back_41) rfl rfl) <|
  xA0 (ok_iconst (xdd xB_68 dX1_back_42) rfl rfl (xrg rfl)) <|
  xA1 (ok_putI (xdd xB_68 dX1_back_43) rfl (lk_f q408) rfl xfd_8 (Or.inl rfl)) <|
  xA0 (ok_iconst (xdd xB_68 dX1_back_46) rfl rfl (xrg rfl)) <|
  xAR (ok_zreturn (xdd xB_68 dX1_back_47) rfl) <|
  xAe
theorem xe_68 {s0 : State} {A0 : Array Value} {D : va_G} {ta : Nat → ClassId} {l : Launch} : XAllC s0 A0 D ta l 68 xk_68 := ⟨xe_68_0, xe_68_1, trivial⟩
theorem xe_69_0 {s0 : State} {A0 : Array Value} {D : va_G} {ta : Nat → ClassId} {l : Launch} : XAll s0 A0 D ta l 69 xk_69_0 :=
  xA0 (ok_iload_n (xdd xB_69 dX1_size_0) rfl rfl) <|
  xA0 (ok_bipush (xdd xB_69 dX1_size_1) rfl rfl (xrg rfl)) <|
  xAB (ok_icmp_ne (xdd xB_69 dX1_size_3) rfl rfl) <|
  xA0 (ok_aload_n (xdd xB_69 dX1_size_6) rfl rfl) <|
  xA1 (ok_getI (xdd xB_69 dX1_size_7) rfl (lk_f q401) (by decide)) <|
  xAR (ok_ireturn (xdd xB_69 dX1_size_10) rfl) <|
  xA0 (ok_aload_n (xdd xB_69 dX1_size_11) rfl rfl) <|
  xA1 (ok_getA (xdd xB_69 dX1_size_12) rfl (lk_f q403) rfl) <|
  xAB (ok_ifnonnull (xdd xB_69 dX1_size_15) rfl rfl) <|
  xA0 (ok_iload_n (xdd xB_69 dX1_size_18) rfl rfl) <|
  xA0 (ok_iconst (xdd xB_69 dX1_size_19) rfl rfl (xrg rfl)) <|
  xA0 (ok_bipush (xdd xB_69 dX1_size_20) rfl rfl (xrg rfl)) <|
  xAK rfl (xC1 (ok_callS (xdd xB_69 dX1_size_22) rfl xp_6_3 q481 q482 q111 q483) xC0) <|
  xAB (ok_if_eq (xdd xB_69 dX1_size_25) rfl rfl) <|
  xA0 (ok_iconst (xdd xB_69 dX1_size_28) rfl rfl (xrg rfl)) <|
  xA0 (ok_goto (xdd xB_69 dX1_size_29) rfl) <|
  xAe
theorem xe_69_1 {s0 : State} {A0 : Array Value} {D : va_G} {ta : Nat → ClassId} {l : Launch} : XAll s0 A0 D ta l 69 xk_69_1 :=
  xA0 (ok_iconst (xdd xB_69 dX1_size_32) rfl rfl (xrg rfl)) <|
  xAR (ok_ireturn (xdd xB_69 dX1_size_33) rfl) <|
  xA0 (ok_iload_n (xdd xB_69 dX1_size_34) rfl rfl) <|
  xA0 (ok_tsw (xdd xB_69 dX1_size_35) rfl rfl rfl rfl (np := 0)) <|
  xAe
theorem xe_69_2 {s0 : State} {A0 : Array Value} {D : va_G} {ta : Nat → ClassId} {l : Launch} : XAll s0 A0 D ta l 69 xk_69_2 :=
  xAe
theorem xe_69_3 {s0 : State} {A0 : Array Value} {D : va_G} {ta : Nat → ClassId} {l : Launch} : XAll s0 A0 D ta l 69 xk_69_3 :=
  xA0 (ok_aload_n (xdd xB_69 dX1_size_96) rfl rfl) <|
  xA1 (ok_getA (xdd xB_69 dX1_size_97) rfl (lk_f q403) rfl) <|
  xA1 (ok_getI (xdd xB_69 dX1_size_100) rfl (lk_f q520) (by decide)) <|
  xAR (ok_ireturn (xdd xB_69 dX1_size_103) rfl) <|
  xA0 (ok_aload_n (xdd xB_69 dX1_size_104) rfl rfl) <|
  xA1 (ok_getA (xdd xB_69 dX1_size_105) rfl (lk_f q403) rfl) <|
  xA1 (ok_getI (xdd xB_69 dX1_size_108) rfl (lk_f q522) (by decide)) <|
  xAR (ok_ireturn (xdd xB_69 dX1_size_111) rfl) <|
  xA0 (ok_aload_n (xdd xB_69 dX1_size_112) rfl rfl) <|
  xA1 (ok_getA (xdd xB_69 dX1_size_113) rfl (lk_f q403) rfl) <|
  xA1 (ok_getI (xdd xB_69 dX1_size_116) rfl (lk_f q528) (by decide)) <|
  xAR (ok_ireturn (xdd xB_69 dX1_size_119) rfl) <|
  xA0 (ok_aload_n (xdd xB_69 dX1_size_120) rfl rfl) <|
  xAK rfl (xC1 (ok_callV (xdd xB_69 dX1_size_121) rfl xq_0 rfl xp_70_0 q1360 q1362 qs48 q111 q1363) xC0) <|
  xAR (ok_ireturn (xdd xB_69 dX1_size_124) rfl) <|
  xA0 (ok_aload_n (xdd xB_69 dX1_size_125) rfl rfl) <|
  xA1 (ok_getA (xdd xB_69 dX1_size_126) rfl (lk_f q403) rfl) <|
  xAe
theorem xe_69_4 {s0 : State} {A0 : Array Value} {D : va_G} {ta : Nat → ClassId} {l : Launch} : XAll s0 A0 D ta l 69 xk_69_4 :=
  xA1 (ok_getI (xdd xB_69 dX1_size_129) rfl (lk_f q531) (by decide)) <|
  xAR (ok_ireturn (xdd xB_69 dX1_size_132) rfl) <|
  xA0 (ok_aload_n (xdd xB_69 dX1_size_133) rfl rfl) <|
  xA1 (ok_getA (xdd xB_69 dX1_size_134) rfl (lk_f q403) rfl) <|
  xA1 (ok_getI (xdd xB_69 dX1_size_137) rfl (lk_f q533) (by decide)) <|
  xAR (ok_ireturn (xdd xB_69 dX1_size_140) rfl) <|
  xA0 (ok_aload_n (xdd xB_69 dX1_size_141) rfl rfl) <|
  xA1 (ok_getA (xdd xB_69 dX1_size_142) rfl (lk_f q403) rfl) <|
  xA1 (ok_getI (xdd xB_69 dX1_size_145) rfl (lk_f q536) (by decide)) <|
  xAR (ok_ireturn (xdd xB_69 dX1_size_148) rfl) <|
  xA0 (ok_aload_n (xdd xB_69 dX1_size_149) rfl rfl) <|
  xA1 (ok_getA (xdd xB_69 dX1_size_150) rfl (lk_f q403) rfl) <|
  xA1 (ok_getI (xdd xB_69 dX1_size_153) rfl (lk_f q540) (by decide)) <|
  xAR (ok_ireturn (xdd xB_69 dX1_size_156) rfl) <|
  xA0 (ok_aload_n (xdd xB_69 dX1_size_157) rfl rfl) <|
  xA1 (ok_getA (xdd xB_69 dX1_size_158) rfl (lk_f q403) rfl) <|
  xAe
theorem xe_69_5 {s0 : State} {A0 : Array Value} {D : va_G} {ta : Nat → ClassId} {l : Launch} : XAll s0 A0 D ta l 69 xk_69_5 :=
  xA1 (ok_getI (xdd xB_69 dX1_size_161) rfl (lk_f q543) (by decide)) <|
  xAR (ok_ireturn (xdd xB_69 dX1_size_164) rfl) <|
  xA0 (ok_aload_n (xdd xB_69 dX1_size_165) rfl rfl) <|
  xA1 (ok_getA (xdd xB_69 dX1_size_166) rfl (lk_f q409) rfl) <|
  xA1 (ok_getI (xdd xB_69 dX1_size_169) rfl (lk_f q280) (by decide)) <|
  xAK rfl (xC1 (ok_callS (xdd xB_69 dX1_size_172) rfl xp_44_1 q1256 q1229 q111 q1230) xC0) <|
  xAR (ok_ireturn (xdd xB_69 dX1_size_175) rfl) <|
  xA0 (ok_aload_n (xdd xB_69 dX1_size_176) rfl rfl) <|
  xA1 (ok_getI (xdd xB_69 dX1_size_177) rfl (lk_f q408) (by decide)) <|
  xAR (ok_ireturn (xdd xB_69 dX1_size_180) rfl) <|
  xA0 (ok_aload_n (xdd xB_69 dX1_size_181) rfl rfl) <|
  xA1 (ok_getI (xdd xB_69 dX1_size_182) rfl (lk_f q407) (by decide)) <|
  xAR (ok_ireturn (xdd xB_69 dX1_size_185) rfl) <|
  xA0 (ok_iconst (xdd xB_69 dX1_size_186) rfl rfl (xrg rfl)) <|
  xAR (ok_ireturn (xdd xB_69 dX1_size_187) rfl) <|
  xAe
theorem xe_69 {s0 : State} {A0 : Array Value} {D : va_G} {ta : Nat → ClassId} {l : Launch} : XAllC s0 A0 D ta l 69 xk_69 := ⟨xe_69_0, xe_69_1, xe_69_2, xe_69_3, xe_69_4, xe_69_5, trivial⟩
theorem xe_70_0 {s0 : State} {A0 : Array Value} {D : va_G} {ta : Nat → ClassId} {l : Launch} : XAll s0 A0 D ta l 70 xk_70_0 :=
  xA0 (ok_iconst (xdd xB_70 dX1_known_0) rfl rfl (xrg rfl)) <|
  xA0 (ok_istore_n (xdd xB_70 dX1_known_1) rfl rfl) <|
  xA0 (ok_iconst (xdd xB_70 dX1_known_2) rfl rfl (xrg rfl)) <|
  xA0 (ok_istore_n (xdd xB_70 dX1_known_3) rfl rfl) <|
  xA0 (ok_iload_n (xdd xB_70 dX1_known_4) rfl rfl) <|
  xA0 (ok_aload_n (xdd xB_70 dX1_known_5) rfl rfl) <|
  xA1 (ok_getA (xdd xB_70 dX1_known_6) rfl (lk_f q403) rfl) <|
  xA1 (ok_getI (xdd xB_70 dX1_known_9) rfl (lk_f q528) (by decide)) <|
  xAB (ok_icmp_ge (xdd xB_70 dX1_known_12) rfl rfl) <|
  xA0 (ok_iload_n (xdd xB_70 dX1_known_15) rfl rfl) <|
  xA0 (ok_aload_n (xdd xB_70 dX1_known_16) rfl rfl) <|
  xA1 (ok_getA (xdd xB_70 dX1_known_17) rfl (lk_f q409) rfl) <|
  xA1 (ok_getA (xdd xB_70 dX1_known_20) rfl (lk_f q273) rfl) <|
  xA0 (ok_iload_n (xdd xB_70 dX1_known_23) rfl rfl) <|
  xA1 (ok_iaload (xdd xB_70 dX1_known_24) rfl) <|
  xA0 (ok_bipush (xdd xB_70 dX1_known_25) rfl rfl (xrg rfl)) <|
  xAB (ok_icmp_eq (xdd xB_70 dX1_known_27) rfl rfl) <|
  xA0 (ok_iconst (xdd xB_70 dX1_known_30) rfl rfl (xrg rfl)) <|
  xA0 (ok_goto (xdd xB_70 dX1_known_31) rfl) <|
  xAe
theorem xe_70_1 {s0 : State} {A0 : Array Value} {D : va_G} {ta : Nat → ClassId} {l : Launch} : XAll s0 A0 D ta l 70 xk_70_1 :=
  xA0 (ok_iconst (xdd xB_70 dX1_known_34) rfl rfl (xrg rfl)) <|
  xA1 (ok_iadd (xdd xB_70 dX1_known_35) rfl) <|
  xA0 (ok_istore_n (xdd xB_70 dX1_known_36) rfl rfl) <|
  xA1 (ok_iinc (xdd xB_70 dX1_known_37) rfl) <|
  xA0 (ok_goto (xdd xB_70 dX1_known_40) rfl) <|
  xA0 (ok_iload_n (xdd xB_70 dX1_known_43) rfl rfl) <|
  xAR (ok_ireturn (xdd xB_70 dX1_known_44) rfl) <|
  xAe
theorem xe_70 {s0 : State} {A0 : Array Value} {D : va_G} {ta : Nat → ClassId} {l : Launch} : XAllC s0 A0 D ta l 70 xk_70 := ⟨xe_70_0, xe_70_1, trivial⟩
theorem xe_71_0 {s0 : State} {A0 : Array Value} {D : va_G} {ta : Nat → ClassId} {l : Launch} : XAll s0 A0 D ta l 71 xk_71_0 :=
  xA0 (ok_aload_n (xdd xB_71 dX1_trouble_0) rfl rfl) <|
  xA1 (ok_getI (xdd xB_71 dX1_trouble_1) rfl (lk_f q404) (by decide)) <|
  xAR (ok_ireturn (xdd xB_71 dX1_trouble_4) rfl) <|
  xAe
theorem xe_71 {s0 : State} {A0 : Array Value} {D : va_G} {ta : Nat → ClassId} {l : Launch} : XAllC s0 A0 D ta l 71 xk_71 := ⟨xe_71_0, trivial⟩
theorem xe_72_0 {s0 : State} {A0 : Array Value} {D : va_G} {ta : Nat → ClassId} {l : Launch} : XAll s0 A0 D ta l 72 xk_72_0 :=
  xA0 (ok_iconst (xdd xB_72 dX1_led_0) rfl rfl (xrg rfl)) <|
  xA0 (ok_istore_n (xdd xB_72 dX1_led_1) rfl rfl) <|
  xA0 (ok_iconst (xdd xB_72 dX1_led_2) rfl rfl (xrg rfl)) <|
  xA0 (ok_istore_n (xdd xB_72 dX1_led_3) rfl rfl) <|
  xA0 (ok_aload_n (xdd xB_72 dX1_led_4) rfl rfl) <|
  xA1 (ok_getA (xdd xB_72 dX1_led_5) rfl (lk_f q403) rfl) <|
  xAB (ok_ifnull (xdd xB_72 dX1_led_8) rfl rfl) <|
  xA0 (ok_iload_n (xdd xB_72 dX1_led_11) rfl rfl) <|
  xA0 (ok_aload_n (xdd xB_72 dX1_led_12) rfl rfl) <|
  xA1 (ok_getA (xdd xB_72 dX1_led_13) rfl (lk_f q403) rfl) <|
  xA1 (ok_getI (xdd xB_72 dX1_led_16) rfl (lk_f q536) (by decide)) <|
  xAB (ok_icmp_ge (xdd xB_72 dX1_led_19) rfl rfl) <|
  xA0 (ok_aload_n (xdd xB_72 dX1_led_22) rfl rfl) <|
  xA1 (ok_getA (xdd xB_72 dX1_led_23) rfl (lk_f q409) rfl) <|
  xA1 (ok_getA (xdd xB_72 dX1_led_26) rfl (lk_f q275) rfl) <|
  xA0 (ok_iload_n (xdd xB_72 dX1_led_29) rfl rfl) <|
  xA1 (ok_iaload (xdd xB_72 dX1_led_30) rfl) <|
  xA0 (ok_aload_n (xdd xB_72 dX1_led_31) rfl rfl) <|
  xAe
theorem xe_72_1 {s0 : State} {A0 : Array Value} {D : va_G} {ta : Nat → ClassId} {l : Launch} : XAll s0 A0 D ta l 72 xk_72_1 :=
  xA1 (ok_getA (xdd xB_72 dX1_led_32) rfl (lk_f q403) rfl) <|
  xA1 (ok_getA (xdd xB_72 dX1_led_35) rfl (lk_f q510) rfl) <|
  xA0 (ok_iload_n (xdd xB_72 dX1_led_38) rfl rfl) <|
  xA1 (ok_aaload (xdd xB_72 dX1_led_39) rfl) <|
  xA1 (ok_getI (xdd xB_72 dX1_led_40) rfl (lk_f q891) (by decide)) <|
  xAB (ok_icmp_eq (xdd xB_72 dX1_led_43) rfl rfl) <|
  xA0 (ok_goto (xdd xB_72 dX1_led_46) rfl) <|
  xA0 (ok_iload_n (xdd xB_72 dX1_led_49) rfl rfl) <|
  xA0 (ok_iload_n (xdd xB_72 dX1_led_50) rfl rfl) <|
  xAB (ok_icmp_ne (xdd xB_72 dX1_led_51) rfl rfl) <|
  xA0 (ok_iload_n (xdd xB_72 dX1_led_54) rfl rfl) <|
  xAR (ok_ireturn (xdd xB_72 dX1_led_55) rfl) <|
  xA1 (ok_iinc (xdd xB_72 dX1_led_56) rfl) <|
  xA1 (ok_iinc (xdd xB_72 dX1_led_59) rfl) <|
  xA0 (ok_goto (xdd xB_72 dX1_led_62) rfl) <|
  xAe
theorem xe_72_2 {s0 : State} {A0 : Array Value} {D : va_G} {ta : Nat → ClassId} {l : Launch} : XAll s0 A0 D ta l 72 xk_72_2 :=
  xA0 (ok_make0 rfl (xdd xB_72 dX1_led_65) (xdd xB_72 dX1_led_68) (xdd xB_72 dX1_led_69)) <|
  xA0 (ok_dup (xdd xB_72 dX1_led_68) rfl) <|
  xAT ((xdd xB_72 dX1_led_72)) <|
  xAe
theorem xe_72 {s0 : State} {A0 : Array Value} {D : va_G} {ta : Nat → ClassId} {l : Launch} : XAllC s0 A0 D ta l 72 xk_72 := ⟨xe_72_0, xe_72_1, xe_72_2, trivial⟩
theorem xe_73_0 {s0 : State} {A0 : Array Value} {D : va_G} {ta : Nat → ClassId} {l : Launch} : XAll s0 A0 D ta l 73 xk_73_0 :=
  xA0 (ok_aload_n (xdd xB_73 dX2_init_0) rfl rfl) <|
  xA1 (ok_obj (xdd xB_73 dX2_init_1) rfl q154 q147 q148) <|
  xA0 (ok_aload_n (xdd xB_73 dX2_init_4) rfl rfl) <|
  xA0 (ok_newo (xdd xB_73 dX2_init_5) rfl xq_2 q155 q156 q116) <|
  xA0 (ok_dup (xdd xB_73 dX2_init_8) rfl) <|
  xAK rfl (xC1 (ok_callI (xdd xB_73 dX2_init_9) rfl xq_2 rfl rfl xp_103_0 q195 q196 q116 q197) xC0) <|
  xA1 (ok_putA (xdd xB_73 dX2_init_12) rfl (lk_f q229) rfl xfd_21 (Or.inl ⟨_, rfl⟩) (Or.inr ⟨rfl, rfl, rfl⟩)) <|
  xA0 (ok_aload_n (xdd xB_73 dX2_init_15) rfl rfl) <|
  xA0 (ok_bipush (xdd xB_73 dX2_init_16) rfl rfl (xrg rfl)) <|
  xA1 (ok_new_char (xdd xB_73 dX2_init_18) rfl) <|
  xA1 (ok_putA (xdd xB_73 dX2_init_20) rfl (lk_f q231) rfl xfd_23 (Or.inr ⟨_, rfl⟩) (Or.inr ⟨rfl, rfl, rfl⟩)) <|
  xA0 (ok_aload_n (xdd xB_73 dX2_init_23) rfl rfl) <|
  xA0 (ok_aload_n (xdd xB_73 dX2_init_24) rfl rfl) <|
  xA1 (ok_putA (xdd xB_73 dX2_init_25) rfl (lk_f q230) rfl xfd_22 (Or.inr ⟨_, rfl⟩) (Or.inr ⟨rfl, rfl, rfl⟩)) <|
  xAR (ok_vreturn (xdd xB_73 dX2_init_28) rfl) <|
  xAe
theorem xe_73 {s0 : State} {A0 : Array Value} {D : va_G} {ta : Nat → ClassId} {l : Launch} : XAllC s0 A0 D ta l 73 xk_73 := ⟨xe_73_0, trivial⟩
theorem xe_74_0 {s0 : State} {A0 : Array Value} {D : va_G} {ta : Nat → ClassId} {l : Launch} : XAll s0 A0 D ta l 74 xk_74_0 :=
  xA0 (ok_aload_n (xdd xB_74 dX2_read_0) rfl rfl) <|
  xA0 (ok_iload_n (xdd xB_74 dX2_read_1) rfl rfl) <|
  xA1 (ok_putI (xdd xB_74 dX2_read_2) rfl (lk_f q232) rfl xfd_24 (Or.inl rfl)) <|
  xA0 (ok_aload_n (xdd xB_74 dX2_read_5) rfl rfl) <|
  xA0 (ok_iconst (xdd xB_74 dX2_read_6) rfl rfl (xrg rfl)) <|
  xA1 (ok_putI (xdd xB_74 dX2_read_7) rfl (lk_f q233) rfl xfd_25 (Or.inl rfl)) <|
  xA0 (ok_aload_n (xdd xB_74 dX2_read_10) rfl rfl) <|
  xA0 (ok_newo (xdd xB_74 dX2_read_11) rfl xq_10 q492 q493 q125) <|
  xA0 (ok_dup (xdd xB_74 dX2_read_14) rfl) <|
  xAK rfl (xC1 (ok_callIN (xdd xB_74 dX2_read_15) rfl xq_10 rfl rfl xp_256_0 q494 q495 q125 q496) xC0) <|
  xA1 (ok_putA (xdd xB_74 dX2_read_18) rfl (lk_f q238) rfl xfd_30 (Or.inl ⟨_, rfl⟩) (Or.inl rfl)) <|
  xA0 (ok_aload_n (xdd xB_74 dX2_read_21) rfl rfl) <|
  xA0 (ok_iconst (xdd xB_74 dX2_read_22) rfl rfl (xrg rfl)) <|
  xA1 (ok_putZ (xdd xB_74 dX2_read_23) rfl (lk_f q239) rfl xfd_31 (Or.inl rfl)) <|
  xA0 (ok_aload_n (xdd xB_74 dX2_read_26) rfl rfl) <|
  xAK rfl (xC1 (ok_callV (xdd xB_74 dX2_read_27) rfl xq_1 rfl xp_75_0 q569 q571 qs4 q112 q572) xC0) <|
  xA0 (ok_aload_n (xdd xB_74 dX2_read_30) rfl rfl) <|
  xAK rfl (xC1 (ok_callV (xdd xB_74 dX2_read_31) rfl xq_1 rfl xp_79_0 q663 q665 qs6 q112 q666) xC0) <|
  xAe
theorem xe_74_1 {s0 : State} {A0 : Array Value} {D : va_G} {ta : Nat → ClassId} {l : Launch} : XAll s0 A0 D ta l 74 xk_74_1 :=
  xA0 (ok_aload_n (xdd xB_74 dX2_read_34) rfl rfl) <|
  xA1 (ok_getI (xdd xB_74 dX2_read_35) rfl (lk_f q234) (by decide)) <|
  xA0 (ok_bipush (xdd xB_74 dX2_read_38) rfl rfl (xrg rfl)) <|
  xAB (ok_icmp_ne (xdd xB_74 dX2_read_40) rfl rfl) <|
  xA0 (ok_aload_n (xdd xB_74 dX2_read_43) rfl rfl) <|
  xAK rfl (xC1 (ok_callV (xdd xB_74 dX2_read_44) rfl xq_1 rfl xp_75_0 q569 q571 qs4 q112 q572) xC0) <|
  xA0 (ok_aload_n (xdd xB_74 dX2_read_47) rfl rfl) <|
  xAK rfl (xC1 (ok_callV (xdd xB_74 dX2_read_48) rfl xq_1 rfl xp_79_0 q663 q665 qs6 q112 q666) xC0) <|
  xA0 (ok_goto (xdd xB_74 dX2_read_51) rfl) <|
  xA0 (ok_aload_n (xdd xB_74 dX2_read_54) rfl rfl) <|
  xA1 (ok_getI (xdd xB_74 dX2_read_55) rfl (lk_f q234) (by decide)) <|
  xAB (ok_if_eq (xdd xB_74 dX2_read_58) rfl rfl) <|
  xA0 (ok_aload_n (xdd xB_74 dX2_read_61) rfl rfl) <|
  xA0 (ok_iconst (xdd xB_74 dX2_read_62) rfl rfl (xrg rfl)) <|
  xAK rfl (xC1 (ok_callV (xdd xB_74 dX2_read_63) rfl xq_1 rfl xp_80_1 q667 q669 qs7 q112 q670) xC0) <|
  xAe
theorem xe_74_2 {s0 : State} {A0 : Array Value} {D : va_G} {ta : Nat → ClassId} {l : Launch} : XAll s0 A0 D ta l 74 xk_74_2 :=
  xAT ((xdd xB_74 dX2_read_66)) <|
  xA0 (ok_aload_n (xdd xB_74 dX2_read_67) rfl rfl) <|
  xA1 (ok_getI (xdd xB_74 dX2_read_68) rfl (lk_f q239) (by decide)) <|
  xAB (ok_if_eq (xdd xB_74 dX2_read_71) rfl rfl) <|
  xA0 (ok_aload_n (xdd xB_74 dX2_read_74) rfl rfl) <|
  xA1 (ok_getA (xdd xB_74 dX2_read_75) rfl (lk_f q238) rfl) <|
  xA1 (ok_getI (xdd xB_74 dX2_read_78) rfl (lk_f q529) (by decide)) <|
  xA0 (ok_iconst (xdd xB_74 dX2_read_81) rfl rfl (xrg rfl)) <|
  xAB (ok_icmp_ge (xdd xB_74 dX2_read_82) rfl rfl) <|
  xA0 (ok_aload_n (xdd xB_74 dX2_read_85) rfl rfl) <|
  xA0 (ok_bipush (xdd xB_74 dX2_read_86) rfl rfl (xrg rfl)) <|
  xAK rfl (xC1 (ok_callV (xdd xB_74 dX2_read_88) rfl xq_1 rfl xp_80_1 q667 q669 qs7 q112 q670) xC0) <|
  xAT ((xdd xB_74 dX2_read_91)) <|
  xA0 (ok_aload_n (xdd xB_74 dX2_read_92) rfl rfl) <|
  xA1 (ok_getA (xdd xB_74 dX2_read_93) rfl (lk_f q238) rfl) <|
  xAe
theorem xe_74_3 {s0 : State} {A0 : Array Value} {D : va_G} {ta : Nat → ClassId} {l : Launch} : XAll s0 A0 D ta l 74 xk_74_3 :=
  xAR (ok_areturn (xdd xB_74 dX2_read_96) rfl (Or.inl ⟨_, rfl⟩)) <|
  xAe
theorem xe_74 {s0 : State} {A0 : Array Value} {D : va_G} {ta : Nat → ClassId} {l : Launch} : XAllC s0 A0 D ta l 74 xk_74 := ⟨xe_74_0, xe_74_1, xe_74_2, xe_74_3, trivial⟩
theorem xe_75_0 {s0 : State} {A0 : Array Value} {D : va_G} {ta : Nat → ClassId} {l : Launch} : XAll s0 A0 D ta l 75 xk_75_0 :=
  xA0 (ok_aload_n (xdd xB_75 dX2_next_0) rfl rfl) <|
  xA1 (ok_getI (xdd xB_75 dX2_next_1) rfl (lk_f q233) (by decide)) <|
  xA0 (ok_istore_n (xdd xB_75 dX2_next_4) rfl rfl) <|
  xA0 (ok_aload_n (xdd xB_75 dX2_next_5) rfl rfl) <|
  xA0 (ok_iload_n (xdd xB_75 dX2_next_6) rfl rfl) <|
  xAK rfl (xC1 (ok_callV (xdd xB_75 dX2_next_7) rfl xq_1 rfl xp_76_1 q573 q575 qs5 q112 q576) xC0) <|
  xA0 (ok_bipush (xdd xB_75 dX2_next_10) rfl rfl (xrg rfl)) <|
  xAB (ok_icmp_ne (xdd xB_75 dX2_next_12) rfl rfl) <|
  xA1 (ok_iinc (xdd xB_75 dX2_next_15) rfl) <|
  xA0 (ok_goto (xdd xB_75 dX2_next_18) rfl) <|
  xA0 (ok_aload_n (xdd xB_75 dX2_next_21) rfl rfl) <|
  xA0 (ok_iload_n (xdd xB_75 dX2_next_22) rfl rfl) <|
  xA1 (ok_putI (xdd xB_75 dX2_next_23) rfl (lk_f q235) rfl xfd_27 (Or.inl rfl)) <|
  xA0 (ok_aload_n (xdd xB_75 dX2_next_26) rfl rfl) <|
  xA0 (ok_iload_n (xdd xB_75 dX2_next_27) rfl rfl) <|
  xA0 (ok_iconst (xdd xB_75 dX2_next_28) rfl rfl (xrg rfl)) <|
  xA1 (ok_iadd (xdd xB_75 dX2_next_29) rfl) <|
  xA1 (ok_putI (xdd xB_75 dX2_next_30) rfl (lk_f q233) rfl xfd_25 (Or.inl rfl)) <|
  xAe
theorem xe_75_1 {s0 : State} {A0 : Array Value} {D : va_G} {ta : Nat → ClassId} {l : Launch} : XAll s0 A0 D ta l 75 xk_75_1 :=
  xA0 (ok_aload_n (xdd xB_75 dX2_next_33) rfl rfl) <|
  xA0 (ok_iload_n (xdd xB_75 dX2_next_34) rfl rfl) <|
  xAK rfl (xC1 (ok_callV (xdd xB_75 dX2_next_35) rfl xq_1 rfl xp_76_1 q573 q575 qs5 q112 q576) xC0) <|
  xA0 (ok_istore_n (xdd xB_75 dX2_next_38) rfl rfl) <|
  xA0 (ok_iload_n (xdd xB_75 dX2_next_39) rfl rfl) <|
  xA0 (ok_iconst (xdd xB_75 dX2_next_40) rfl rfl (xrg rfl)) <|
  xAB (ok_icmp_ne (xdd xB_75 dX2_next_41) rfl rfl) <|
  xA0 (ok_aload_n (xdd xB_75 dX2_next_44) rfl rfl) <|
  xA0 (ok_iconst (xdd xB_75 dX2_next_45) rfl rfl (xrg rfl)) <|
  xA1 (ok_putI (xdd xB_75 dX2_next_46) rfl (lk_f q234) rfl xfd_26 (Or.inl rfl)) <|
  xA0 (ok_aload_n (xdd xB_75 dX2_next_49) rfl rfl) <|
  xA0 (ok_iload_n (xdd xB_75 dX2_next_50) rfl rfl) <|
  xA1 (ok_putI (xdd xB_75 dX2_next_51) rfl (lk_f q233) rfl xfd_25 (Or.inl rfl)) <|
  xA0 (ok_goto (xdd xB_75 dX2_next_54) rfl) <|
  xA0 (ok_iload_n (xdd xB_75 dX2_next_57) rfl rfl) <|
  xAK rfl (xC1 (ok_callS (xdd xB_75 dX2_next_58) rfl xp_77_1 q577 q578 q112 q579) xC0) <|
  xAB (ok_if_eq (xdd xB_75 dX2_next_61) rfl rfl) <|
  xAe
theorem xe_75_2 {s0 : State} {A0 : Array Value} {D : va_G} {ta : Nat → ClassId} {l : Launch} : XAll s0 A0 D ta l 75 xk_75_2 :=
  xA0 (ok_aload_n (xdd xB_75 dX2_next_64) rfl rfl) <|
  xA0 (ok_iload_n (xdd xB_75 dX2_next_65) rfl rfl) <|
  xA1 (ok_putI (xdd xB_75 dX2_next_66) rfl (lk_f q233) rfl xfd_25 (Or.inl rfl)) <|
  xA0 (ok_aload_n (xdd xB_75 dX2_next_69) rfl rfl) <|
  xA0 (ok_aload_n (xdd xB_75 dX2_next_70) rfl rfl) <|
  xA1 (ok_getI (xdd xB_75 dX2_next_71) rfl (lk_f q233) (by decide)) <|
  xAK rfl (xC1 (ok_callV (xdd xB_75 dX2_next_74) rfl xq_1 rfl xp_76_1 q573 q575 qs5 q112 q576) xC0) <|
  xAK rfl (xC1 (ok_callS (xdd xB_75 dX2_next_77) rfl xp_77_1 q577 q578 q112 q579) xC0) <|
  xAB (ok_if_eq (xdd xB_75 dX2_next_80) rfl rfl) <|
  xA0 (ok_aload_n (xdd xB_75 dX2_next_83) rfl rfl) <|
  xA1 (ok_getI (xdd xB_75 dX2_next_84) rfl (lk_f q233) (by decide)) <|
  xA0 (ok_iload_n (xdd xB_75 dX2_next_87) rfl rfl) <|
  xA1 (ok_isub (xdd xB_75 dX2_next_88) rfl) <|
  xA0 (ok_bipush (xdd xB_75 dX2_next_89) rfl rfl (xrg rfl)) <|
  xAB (ok_icmp_ge (xdd xB_75 dX2_next_91) rfl rfl) <|
  xA0 (ok_aload_n (xdd xB_75 dX2_next_94) rfl rfl) <|
  xA1 (ok_getA (xdd xB_75 dX2_next_95) rfl (lk_f q231) rfl) <|
  xAe
theorem xe_75_3 {s0 : State} {A0 : Array Value} {D : va_G} {ta : Nat → ClassId} {l : Launch} : XAll s0 A0 D ta l 75 xk_75_3 :=
  xA0 (ok_aload_n (xdd xB_75 dX2_next_98) rfl rfl) <|
  xA1 (ok_getI (xdd xB_75 dX2_next_99) rfl (lk_f q233) (by decide)) <|
  xA0 (ok_iload_n (xdd xB_75 dX2_next_102) rfl rfl) <|
  xA1 (ok_isub (xdd xB_75 dX2_next_103) rfl) <|
  xA0 (ok_aload_n (xdd xB_75 dX2_next_104) rfl rfl) <|
  xA0 (ok_aload_n (xdd xB_75 dX2_next_105) rfl rfl) <|
  xA1 (ok_getI (xdd xB_75 dX2_next_106) rfl (lk_f q233) (by decide)) <|
  xAK rfl (xC1 (ok_callV (xdd xB_75 dX2_next_109) rfl xq_1 rfl xp_76_1 q573 q575 qs5 q112 q576) xC0) <|
  xA1 (ok_i2c (xdd xB_75 dX2_next_112) rfl) <|
  xA1 (ok_castore (xdd xB_75 dX2_next_113) rfl) <|
  xA0 (ok_aload_n (xdd xB_75 dX2_next_114) rfl rfl) <|
  xA0 (ok_dup (xdd xB_75 dX2_next_115) rfl) <|
  xA1 (ok_getI (xdd xB_75 dX2_next_116) rfl (lk_f q233) (by decide)) <|
  xA0 (ok_iconst (xdd xB_75 dX2_next_119) rfl rfl (xrg rfl)) <|
  xA1 (ok_iadd (xdd xB_75 dX2_next_120) rfl) <|
  xA1 (ok_putI (xdd xB_75 dX2_next_121) rfl (lk_f q233) rfl xfd_25 (Or.inl rfl)) <|
  xA0 (ok_goto (xdd xB_75 dX2_next_124) rfl) <|
  xA0 (ok_aload_n (xdd xB_75 dX2_next_127) rfl rfl) <|
  xAe
theorem xe_75_4 {s0 : State} {A0 : Array Value} {D : va_G} {ta : Nat → ClassId} {l : Launch} : XAll s0 A0 D ta l 75 xk_75_4 :=
  xA0 (ok_aload_n (xdd xB_75 dX2_next_128) rfl rfl) <|
  xA1 (ok_getI (xdd xB_75 dX2_next_129) rfl (lk_f q233) (by decide)) <|
  xA0 (ok_iload_n (xdd xB_75 dX2_next_132) rfl rfl) <|
  xA1 (ok_isub (xdd xB_75 dX2_next_133) rfl) <|
  xA0 (ok_bipush (xdd xB_75 dX2_next_134) rfl rfl (xrg rfl)) <|
  xAB (ok_icmp_le (xdd xB_75 dX2_next_136) rfl rfl) <|
  xA0 (ok_iconst (xdd xB_75 dX2_next_139) rfl rfl (xrg rfl)) <|
  xA0 (ok_goto (xdd xB_75 dX2_next_140) rfl) <|
  xA0 (ok_iconst (xdd xB_75 dX2_next_143) rfl rfl (xrg rfl)) <|
  xA1 (ok_putI (xdd xB_75 dX2_next_144) rfl (lk_f q234) rfl xfd_26 (Or.inl rfl)) <|
  xA0 (ok_aload_n (xdd xB_75 dX2_next_147) rfl rfl) <|
  xA0 (ok_aload_n (xdd xB_75 dX2_next_148) rfl rfl) <|
  xA1 (ok_getI (xdd xB_75 dX2_next_149) rfl (lk_f q234) (by decide)) <|
  xA0 (ok_iconst (xdd xB_75 dX2_next_152) rfl rfl (xrg rfl)) <|
  xAB (ok_icmp_ne (xdd xB_75 dX2_next_153) rfl rfl) <|
  xA0 (ok_newo (xdd xB_75 dX2_next_156) rfl xq_16 q581 q582 q126) <|
  xA0 (ok_dup (xdd xB_75 dX2_next_159) rfl) <|
  xAe
theorem xe_75_5 {s0 : State} {A0 : Array Value} {D : va_G} {ta : Nat → ClassId} {l : Launch} : XAll s0 A0 D ta l 75 xk_75_5 :=
  xA0 (ok_aload_n (xdd xB_75 dX2_next_160) rfl rfl) <|
  xA1 (ok_getA (xdd xB_75 dX2_next_161) rfl (lk_f q231) rfl) <|
  xA0 (ok_iconst (xdd xB_75 dX2_next_164) rfl rfl (xrg rfl)) <|
  xA0 (ok_aload_n (xdd xB_75 dX2_next_165) rfl rfl) <|
  xA1 (ok_getI (xdd xB_75 dX2_next_166) rfl (lk_f q233) (by decide)) <|
  xA0 (ok_iload_n (xdd xB_75 dX2_next_169) rfl rfl) <|
  xA1 (ok_isub (xdd xB_75 dX2_next_170) rfl) <|
  xAK rfl (xC1 (ok_callI (xdd xB_75 dX2_next_171) rfl xq_16 rfl rfl xp_261_3 q583 q584 q126 q585) xC0) <|
  xA0 (ok_goto (xdd xB_75 dX2_next_174) rfl) <|
  xA0 (ok_ldcS (xdd xB_75 dX2_next_177) rfl rfl) <|
  xA1 (ok_putA (xdd xB_75 dX2_next_179) rfl (lk_f q237) rfl xfd_29 (Or.inl ⟨_, rfl⟩) (Or.inl rfl)) <|
  xA0 (ok_goto (xdd xB_75 dX2_next_182) rfl) <|
  xA0 (ok_iload_n (xdd xB_75 dX2_next_185) rfl rfl) <|
  xAK rfl (xC1 (ok_callS (xdd xB_75 dX2_next_186) rfl xp_78_1 q660 q661 q112 q662) xC0) <|
  xAB (ok_if_eq (xdd xB_75 dX2_next_189) rfl rfl) <|
  xAe
theorem xe_75_6 {s0 : State} {A0 : Array Value} {D : va_G} {ta : Nat → ClassId} {l : Launch} : XAll s0 A0 D ta l 75 xk_75_6 :=
  xA0 (ok_aload_n (xdd xB_75 dX2_next_192) rfl rfl) <|
  xA0 (ok_iconst (xdd xB_75 dX2_next_193) rfl rfl (xrg rfl)) <|
  xA1 (ok_putI (xdd xB_75 dX2_next_194) rfl (lk_f q236) rfl xfd_28 (Or.inl rfl)) <|
  xA0 (ok_aload_n (xdd xB_75 dX2_next_197) rfl rfl) <|
  xA0 (ok_iload_n (xdd xB_75 dX2_next_198) rfl rfl) <|
  xA1 (ok_putI (xdd xB_75 dX2_next_199) rfl (lk_f q233) rfl xfd_25 (Or.inl rfl)) <|
  xA0 (ok_aload_n (xdd xB_75 dX2_next_202) rfl rfl) <|
  xA0 (ok_aload_n (xdd xB_75 dX2_next_203) rfl rfl) <|
  xA1 (ok_getI (xdd xB_75 dX2_next_204) rfl (lk_f q233) (by decide)) <|
  xAK rfl (xC1 (ok_callV (xdd xB_75 dX2_next_207) rfl xq_1 rfl xp_76_1 q573 q575 qs5 q112 q576) xC0) <|
  xAK rfl (xC1 (ok_callS (xdd xB_75 dX2_next_210) rfl xp_78_1 q660 q661 q112 q662) xC0) <|
  xAB (ok_if_eq (xdd xB_75 dX2_next_213) rfl rfl) <|
  xA0 (ok_aload_n (xdd xB_75 dX2_next_216) rfl rfl) <|
  xA1 (ok_getI (xdd xB_75 dX2_next_217) rfl (lk_f q233) (by decide)) <|
  xA0 (ok_iload_n (xdd xB_75 dX2_next_220) rfl rfl) <|
  xA1 (ok_isub (xdd xB_75 dX2_next_221) rfl) <|
  xA0 (ok_iconst (xdd xB_75 dX2_next_222) rfl rfl (xrg rfl)) <|
  xAB (ok_icmp_ge (xdd xB_75 dX2_next_223) rfl rfl) <|
  xAe
theorem xe_75_7 {s0 : State} {A0 : Array Value} {D : va_G} {ta : Nat → ClassId} {l : Launch} : XAll s0 A0 D ta l 75 xk_75_7 :=
  xA0 (ok_aload_n (xdd xB_75 dX2_next_226) rfl rfl) <|
  xA0 (ok_bipush (xdd xB_75 dX2_next_227) rfl rfl (xrg rfl)) <|
  xA0 (ok_aload_n (xdd xB_75 dX2_next_229) rfl rfl) <|
  xA1 (ok_getI (xdd xB_75 dX2_next_230) rfl (lk_f q236) (by decide)) <|
  xA1 (ok_imul (xdd xB_75 dX2_next_233) rfl) <|
  xA0 (ok_aload_n (xdd xB_75 dX2_next_234) rfl rfl) <|
  xA0 (ok_aload_n (xdd xB_75 dX2_next_235) rfl rfl) <|
  xA1 (ok_getI (xdd xB_75 dX2_next_236) rfl (lk_f q233) (by decide)) <|
  xAK rfl (xC1 (ok_callV (xdd xB_75 dX2_next_239) rfl xq_1 rfl xp_76_1 q573 q575 qs5 q112 q576) xC0) <|
  xA1 (ok_iadd (xdd xB_75 dX2_next_242) rfl) <|
  xA0 (ok_bipush (xdd xB_75 dX2_next_243) rfl rfl (xrg rfl)) <|
  xA1 (ok_isub (xdd xB_75 dX2_next_245) rfl) <|
  xA1 (ok_putI (xdd xB_75 dX2_next_246) rfl (lk_f q236) rfl xfd_28 (Or.inl rfl)) <|
  xA0 (ok_aload_n (xdd xB_75 dX2_next_249) rfl rfl) <|
  xA0 (ok_dup (xdd xB_75 dX2_next_250) rfl) <|
  xA1 (ok_getI (xdd xB_75 dX2_next_251) rfl (lk_f q233) (by decide)) <|
  xA0 (ok_iconst (xdd xB_75 dX2_next_254) rfl rfl (xrg rfl)) <|
  xA1 (ok_iadd (xdd xB_75 dX2_next_255) rfl) <|
  xAe
theorem xe_75_8 {s0 : State} {A0 : Array Value} {D : va_G} {ta : Nat → ClassId} {l : Launch} : XAll s0 A0 D ta l 75 xk_75_8 :=
  xA1 (ok_putI (xdd xB_75 dX2_next_256) rfl (lk_f q233) rfl xfd_25 (Or.inl rfl)) <|
  xA0 (ok_goto (xdd xB_75 dX2_next_259) rfl) <|
  xA0 (ok_aload_n (xdd xB_75 dX2_next_262) rfl rfl) <|
  xA0 (ok_aload_n (xdd xB_75 dX2_next_263) rfl rfl) <|
  xA1 (ok_getI (xdd xB_75 dX2_next_264) rfl (lk_f q233) (by decide)) <|
  xA0 (ok_iload_n (xdd xB_75 dX2_next_267) rfl rfl) <|
  xA1 (ok_isub (xdd xB_75 dX2_next_268) rfl) <|
  xA0 (ok_iconst (xdd xB_75 dX2_next_269) rfl rfl (xrg rfl)) <|
  xAB (ok_icmp_le (xdd xB_75 dX2_next_270) rfl rfl) <|
  xA0 (ok_iconst (xdd xB_75 dX2_next_273) rfl rfl (xrg rfl)) <|
  xA0 (ok_goto (xdd xB_75 dX2_next_274) rfl) <|
  xA0 (ok_iconst (xdd xB_75 dX2_next_277) rfl rfl (xrg rfl)) <|
  xA1 (ok_putI (xdd xB_75 dX2_next_278) rfl (lk_f q234) rfl xfd_26 (Or.inl rfl)) <|
  xA0 (ok_goto (xdd xB_75 dX2_next_281) rfl) <|
  xA0 (ok_aload_n (xdd xB_75 dX2_next_284) rfl rfl) <|
  xA0 (ok_iload_n (xdd xB_75 dX2_next_285) rfl rfl) <|
  xA0 (ok_bipush (xdd xB_75 dX2_next_286) rfl rfl (xrg rfl)) <|
  xAe
theorem xe_75_9 {s0 : State} {A0 : Array Value} {D : va_G} {ta : Nat → ClassId} {l : Launch} : XAll s0 A0 D ta l 75 xk_75_9 :=
  xAB (ok_icmp_ne (xdd xB_75 dX2_next_288) rfl rfl) <|
  xA0 (ok_iload_n (xdd xB_75 dX2_next_291) rfl rfl) <|
  xA0 (ok_goto (xdd xB_75 dX2_next_292) rfl) <|
  xA0 (ok_iconst (xdd xB_75 dX2_next_295) rfl rfl (xrg rfl)) <|
  xA1 (ok_putI (xdd xB_75 dX2_next_296) rfl (lk_f q234) rfl xfd_26 (Or.inl rfl)) <|
  xAR (ok_vreturn (xdd xB_75 dX2_next_299) rfl) <|
  xAe
theorem xe_75 {s0 : State} {A0 : Array Value} {D : va_G} {ta : Nat → ClassId} {l : Launch} : XAllC s0 A0 D ta l 75 xk_75 := ⟨xe_75_0, xe_75_1, xe_75_2, xe_75_3, xe_75_4, xe_75_5, xe_75_6, xe_75_7, xe_75_8, xe_75_9, trivial⟩
theorem xe_76_0 {s0 : State} {A0 : Array Value} {D : va_G} {ta : Nat → ClassId} {l : Launch} : XAll s0 A0 D ta l 76 xk_76_0 :=
  xA0 (ok_iload_n (xdd xB_76 dX2_see_0) rfl rfl) <|
  xA0 (ok_aload_n (xdd xB_76 dX2_see_1) rfl rfl) <|
  xA1 (ok_getI (xdd xB_76 dX2_see_2) rfl (lk_f q232) (by decide)) <|
  xAB (ok_icmp_ge (xdd xB_76 dX2_see_5) rfl rfl) <|
  xA0 (ok_aload_n (xdd xB_76 dX2_see_8) rfl rfl) <|
  xA1 (ok_getA (xdd xB_76 dX2_see_9) rfl (lk_f q230) rfl) <|
  xA0 (ok_iload_n (xdd xB_76 dX2_see_12) rfl rfl) <|
  xA1 (ok_baload (xdd xB_76 dX2_see_13) rfl) <|
  xA0 (ok_sipush (xdd xB_76 dX2_see_14) rfl rfl (xrg rfl)) <|
  xA0 (ok_iand (xdd xB_76 dX2_see_17) rfl) <|
  xA0 (ok_goto (xdd xB_76 dX2_see_18) rfl) <|
  xA0 (ok_iconst (xdd xB_76 dX2_see_21) rfl rfl (xrg rfl)) <|
  xAR (ok_ireturn (xdd xB_76 dX2_see_22) rfl) <|
  xAe
theorem xe_76 {s0 : State} {A0 : Array Value} {D : va_G} {ta : Nat → ClassId} {l : Launch} : XAllC s0 A0 D ta l 76 xk_76 := ⟨xe_76_0, trivial⟩
theorem xe_77_0 {s0 : State} {A0 : Array Value} {D : va_G} {ta : Nat → ClassId} {l : Launch} : XAll s0 A0 D ta l 77 xk_77_0 :=
  xA0 (ok_iload_n (xdd xB_77 dX2_isSmall_0) rfl rfl) <|
  xA0 (ok_bipush (xdd xB_77 dX2_isSmall_1) rfl rfl (xrg rfl)) <|
  xA0 (ok_bipush (xdd xB_77 dX2_isSmall_3) rfl rfl (xrg rfl)) <|
  xAK rfl (xC1 (ok_callSN (xdd xB_77 dX2_isSmall_5) rfl xp_6_3 q580 q482 q111 q483) xC0) <|
  xAR (ok_zreturn (xdd xB_77 dX2_isSmall_8) rfl) <|
  xAe
theorem xe_77 {s0 : State} {A0 : Array Value} {D : va_G} {ta : Nat → ClassId} {l : Launch} : XAllC s0 A0 D ta l 77 xk_77 := ⟨xe_77_0, trivial⟩
theorem xe_78_0 {s0 : State} {A0 : Array Value} {D : va_G} {ta : Nat → ClassId} {l : Launch} : XAll s0 A0 D ta l 78 xk_78_0 :=
  xA0 (ok_iload_n (xdd xB_78 dX2_isDigit_0) rfl rfl) <|
  xA0 (ok_bipush (xdd xB_78 dX2_isDigit_1) rfl rfl (xrg rfl)) <|
  xA0 (ok_bipush (xdd xB_78 dX2_isDigit_3) rfl rfl (xrg rfl)) <|
  xAK rfl (xC1 (ok_callSN (xdd xB_78 dX2_isDigit_5) rfl xp_6_3 q580 q482 q111 q483) xC0) <|
  xAR (ok_zreturn (xdd xB_78 dX2_isDigit_8) rfl) <|
  xAe
theorem xe_78 {s0 : State} {A0 : Array Value} {D : va_G} {ta : Nat → ClassId} {l : Launch} : XAllC s0 A0 D ta l 78 xk_78 := ⟨xe_78_0, trivial⟩
theorem xe_79_0 {s0 : State} {A0 : Array Value} {D : va_G} {ta : Nat → ClassId} {l : Launch} : XAll s0 A0 D ta l 79 xk_79_0 :=
  xA0 (ok_aload_n (xdd xB_79 dX2_line_0) rfl rfl) <|
  xA1 (ok_getI (xdd xB_79 dX2_line_1) rfl (lk_f q234) (by decide)) <|
  xA0 (ok_iconst (xdd xB_79 dX2_line_4) rfl rfl (xrg rfl)) <|
  xAB (ok_icmp_eq (xdd xB_79 dX2_line_5) rfl rfl) <|
  xA0 (ok_aload_n (xdd xB_79 dX2_line_8) rfl rfl) <|
  xA0 (ok_iconst (xdd xB_79 dX2_line_9) rfl rfl (xrg rfl)) <|
  xAK rfl (xC1 (ok_callV (xdd xB_79 dX2_line_10) rfl xq_1 rfl xp_80_1 q667 q669 qs7 q112 q670) xC0) <|
  xAT ((xdd xB_79 dX2_line_13)) <|
  xA0 (ok_aload_n (xdd xB_79 dX2_line_14) rfl rfl) <|
  xA1 (ok_getA (xdd xB_79 dX2_line_15) rfl (lk_f q237) rfl) <|
  xA0 (ok_astore_n (xdd xB_79 dX2_line_18) rfl rfl) <|
  xA0 (ok_iconst (xdd xB_79 dX2_line_19) rfl rfl (xrg rfl)) <|
  xA0 (ok_istore_n (xdd xB_79 dX2_line_20) rfl rfl) <|
  xA0 (ok_aload_n (xdd xB_79 dX2_line_21) rfl rfl) <|
  xAK rfl (xC1 (ok_callV (xdd xB_79 dX2_line_22) rfl xq_16 rfl xp_265_0 q675 q676 q677 q126 q678) xC0) <|
  xA0 (ok_lsw (xdd xB_79 dX2_line_25) rfl rfl rfl rfl (np := 0)) <|
  xAe
theorem xe_79_1 {s0 : State} {A0 : Array Value} {D : va_G} {ta : Nat → ClassId} {l : Launch} : XAll s0 A0 D ta l 79 xk_79_1 :=
  xAe
theorem xe_79_2 {s0 : State} {A0 : Array Value} {D : va_G} {ta : Nat → ClassId} {l : Launch} : XAll s0 A0 D ta l 79 xk_79_2 :=
  xAe
theorem xe_79_3 {s0 : State} {A0 : Array Value} {D : va_G} {ta : Nat → ClassId} {l : Launch} : XAll s0 A0 D ta l 79 xk_79_3 :=
  xA0 (ok_aload_n (xdd xB_79 dX2_line_100) rfl rfl) <|
  xA0 (ok_ldcS (xdd xB_79 dX2_line_101) rfl rfl) <|
  xAK rfl (xC1 (ok_callV (xdd xB_79 dX2_line_103) rfl xq_16 rfl xp_267_1 q729 q730 q731 q126 q732) xC0) <|
  xAB (ok_if_eq (xdd xB_79 dX2_line_106) rfl rfl) <|
  xA0 (ok_iconst (xdd xB_79 dX2_line_109) rfl rfl (xrg rfl)) <|
  xA0 (ok_istore_n (xdd xB_79 dX2_line_110) rfl rfl) <|
  xA0 (ok_goto (xdd xB_79 dX2_line_111) rfl) <|
  xA0 (ok_aload_n (xdd xB_79 dX2_line_114) rfl rfl) <|
  xA0 (ok_ldcS (xdd xB_79 dX2_line_115) rfl rfl) <|
  xAK rfl (xC1 (ok_callV (xdd xB_79 dX2_line_117) rfl xq_16 rfl xp_267_1 q729 q730 q731 q126 q732) xC0) <|
  xAB (ok_if_eq (xdd xB_79 dX2_line_120) rfl rfl) <|
  xA0 (ok_iconst (xdd xB_79 dX2_line_123) rfl rfl (xrg rfl)) <|
  xA0 (ok_istore_n (xdd xB_79 dX2_line_124) rfl rfl) <|
  xA0 (ok_goto (xdd xB_79 dX2_line_125) rfl) <|
  xAe
theorem xe_79_4 {s0 : State} {A0 : Array Value} {D : va_G} {ta : Nat → ClassId} {l : Launch} : XAll s0 A0 D ta l 79 xk_79_4 :=
  xA0 (ok_aload_n (xdd xB_79 dX2_line_128) rfl rfl) <|
  xA0 (ok_ldcS (xdd xB_79 dX2_line_129) rfl rfl) <|
  xAK rfl (xC1 (ok_callV (xdd xB_79 dX2_line_131) rfl xq_16 rfl xp_267_1 q729 q730 q731 q126 q732) xC0) <|
  xAB (ok_if_eq (xdd xB_79 dX2_line_134) rfl rfl) <|
  xA0 (ok_iconst (xdd xB_79 dX2_line_137) rfl rfl (xrg rfl)) <|
  xA0 (ok_istore_n (xdd xB_79 dX2_line_138) rfl rfl) <|
  xA0 (ok_goto (xdd xB_79 dX2_line_139) rfl) <|
  xA0 (ok_aload_n (xdd xB_79 dX2_line_142) rfl rfl) <|
  xA0 (ok_ldcS (xdd xB_79 dX2_line_143) rfl rfl) <|
  xAK rfl (xC1 (ok_callV (xdd xB_79 dX2_line_145) rfl xq_16 rfl xp_267_1 q729 q730 q731 q126 q732) xC0) <|
  xAB (ok_if_eq (xdd xB_79 dX2_line_148) rfl rfl) <|
  xA0 (ok_iconst (xdd xB_79 dX2_line_151) rfl rfl (xrg rfl)) <|
  xA0 (ok_istore_n (xdd xB_79 dX2_line_152) rfl rfl) <|
  xA0 (ok_goto (xdd xB_79 dX2_line_153) rfl) <|
  xA0 (ok_aload_n (xdd xB_79 dX2_line_156) rfl rfl) <|
  xA0 (ok_ldcS (xdd xB_79 dX2_line_157) rfl rfl) <|
  xAK rfl (xC1 (ok_callV (xdd xB_79 dX2_line_159) rfl xq_16 rfl xp_267_1 q729 q730 q731 q126 q732) xC0) <|
  xAe
theorem xe_79_5 {s0 : State} {A0 : Array Value} {D : va_G} {ta : Nat → ClassId} {l : Launch} : XAll s0 A0 D ta l 79 xk_79_5 :=
  xAB (ok_if_eq (xdd xB_79 dX2_line_162) rfl rfl) <|
  xA0 (ok_iconst (xdd xB_79 dX2_line_165) rfl rfl (xrg rfl)) <|
  xA0 (ok_istore_n (xdd xB_79 dX2_line_166) rfl rfl) <|
  xA0 (ok_goto (xdd xB_79 dX2_line_167) rfl) <|
  xA0 (ok_aload_n (xdd xB_79 dX2_line_170) rfl rfl) <|
  xA0 (ok_ldcS (xdd xB_79 dX2_line_171) rfl rfl) <|
  xAK rfl (xC1 (ok_callV (xdd xB_79 dX2_line_173) rfl xq_16 rfl xp_267_1 q729 q730 q731 q126 q732) xC0) <|
  xAB (ok_if_eq (xdd xB_79 dX2_line_176) rfl rfl) <|
  xA0 (ok_iconst (xdd xB_79 dX2_line_179) rfl rfl (xrg rfl)) <|
  xA0 (ok_istore_n (xdd xB_79 dX2_line_180) rfl rfl) <|
  xA0 (ok_goto (xdd xB_79 dX2_line_181) rfl) <|
  xA0 (ok_aload_n (xdd xB_79 dX2_line_184) rfl rfl) <|
  xA0 (ok_ldcS (xdd xB_79 dX2_line_185) rfl rfl) <|
  xAK rfl (xC1 (ok_callV (xdd xB_79 dX2_line_187) rfl xq_16 rfl xp_267_1 q729 q730 q731 q126 q732) xC0) <|
  xAB (ok_if_eq (xdd xB_79 dX2_line_190) rfl rfl) <|
  xAe
theorem xe_79_6 {s0 : State} {A0 : Array Value} {D : va_G} {ta : Nat → ClassId} {l : Launch} : XAll s0 A0 D ta l 79 xk_79_6 :=
  xA0 (ok_bipush (xdd xB_79 dX2_line_193) rfl rfl (xrg rfl)) <|
  xA0 (ok_istore_n (xdd xB_79 dX2_line_195) rfl rfl) <|
  xA0 (ok_goto (xdd xB_79 dX2_line_196) rfl) <|
  xA0 (ok_aload_n (xdd xB_79 dX2_line_199) rfl rfl) <|
  xA0 (ok_ldcS (xdd xB_79 dX2_line_200) rfl rfl) <|
  xAK rfl (xC1 (ok_callV (xdd xB_79 dX2_line_202) rfl xq_16 rfl xp_267_1 q729 q730 q731 q126 q732) xC0) <|
  xAB (ok_if_eq (xdd xB_79 dX2_line_205) rfl rfl) <|
  xA0 (ok_bipush (xdd xB_79 dX2_line_208) rfl rfl (xrg rfl)) <|
  xA0 (ok_istore_n (xdd xB_79 dX2_line_210) rfl rfl) <|
  xA0 (ok_iload_n (xdd xB_79 dX2_line_211) rfl rfl) <|
  xA0 (ok_tsw (xdd xB_79 dX2_line_212) rfl rfl rfl rfl (np := 0)) <|
  xAe
theorem xe_79_7 {s0 : State} {A0 : Array Value} {D : va_G} {ta : Nat → ClassId} {l : Launch} : XAll s0 A0 D ta l 79 xk_79_7 :=
  xAe
theorem xe_79_8 {s0 : State} {A0 : Array Value} {D : va_G} {ta : Nat → ClassId} {l : Launch} : XAll s0 A0 D ta l 79 xk_79_8 :=
  xA0 (ok_aload_n (xdd xB_79 dX2_line_260) rfl rfl) <|
  xAK rfl (xC1 (ok_callV (xdd xB_79 dX2_line_261) rfl xq_1 rfl xp_81_0 q744 q746 qs8 q112 q747) xC0) <|
  xA0 (ok_goto (xdd xB_79 dX2_line_264) rfl) <|
  xA0 (ok_aload_n (xdd xB_79 dX2_line_267) rfl rfl) <|
  xAK rfl (xC1 (ok_callV (xdd xB_79 dX2_line_268) rfl xq_1 rfl xp_86_0 q766 q768 qs13 q112 q769) xC0) <|
  xA0 (ok_goto (xdd xB_79 dX2_line_271) rfl) <|
  xA0 (ok_aload_n (xdd xB_79 dX2_line_274) rfl rfl) <|
  xAK rfl (xC1 (ok_callV (xdd xB_79 dX2_line_275) rfl xq_1 rfl xp_91_0 q853 q855 qs18 q112 q856) xC0) <|
  xA0 (ok_goto (xdd xB_79 dX2_line_278) rfl) <|
  xA0 (ok_aload_n (xdd xB_79 dX2_line_281) rfl rfl) <|
  xAK rfl (xC1 (ok_callV (xdd xB_79 dX2_line_282) rfl xq_1 rfl xp_93_0 q862 q864 qs20 q112 q865) xC0) <|
  xA0 (ok_goto (xdd xB_79 dX2_line_285) rfl) <|
  xAe
theorem xe_79_9 {s0 : State} {A0 : Array Value} {D : va_G} {ta : Nat → ClassId} {l : Launch} : XAll s0 A0 D ta l 79 xk_79_9 :=
  xA0 (ok_aload_n (xdd xB_79 dX2_line_288) rfl rfl) <|
  xAK rfl (xC1 (ok_callV (xdd xB_79 dX2_line_289) rfl xq_1 rfl xp_94_0 q868 q870 qs21 q112 q871) xC0) <|
  xA0 (ok_goto (xdd xB_79 dX2_line_292) rfl) <|
  xA0 (ok_aload_n (xdd xB_79 dX2_line_295) rfl rfl) <|
  xAK rfl (xC1 (ok_callV (xdd xB_79 dX2_line_296) rfl xq_1 rfl xp_96_0 q881 q883 qs23 q112 q884) xC0) <|
  xA0 (ok_goto (xdd xB_79 dX2_line_299) rfl) <|
  xA0 (ok_aload_n (xdd xB_79 dX2_line_302) rfl rfl) <|
  xAK rfl (xC1 (ok_callV (xdd xB_79 dX2_line_303) rfl xq_1 rfl xp_97_0 q904 q906 qs24 q112 q907) xC0) <|
  xA0 (ok_goto (xdd xB_79 dX2_line_306) rfl) <|
  xA0 (ok_aload_n (xdd xB_79 dX2_line_309) rfl rfl) <|
  xAK rfl (xC1 (ok_callV (xdd xB_79 dX2_line_310) rfl xq_1 rfl xp_99_0 q934 q936 qs26 q112 q937) xC0) <|
  xA0 (ok_goto (xdd xB_79 dX2_line_313) rfl) <|
  xA0 (ok_aload_n (xdd xB_79 dX2_line_316) rfl rfl) <|
  xA0 (ok_iconst (xdd xB_79 dX2_line_317) rfl rfl (xrg rfl)) <|
  xAK rfl (xC1 (ok_callV (xdd xB_79 dX2_line_318) rfl xq_1 rfl xp_80_1 q667 q669 qs7 q112 q670) xC0) <|
  xAe
theorem xe_79_10 {s0 : State} {A0 : Array Value} {D : va_G} {ta : Nat → ClassId} {l : Launch} : XAll s0 A0 D ta l 79 xk_79_10 :=
  xAT ((xdd xB_79 dX2_line_321)) <|
  xAR (ok_vreturn (xdd xB_79 dX2_line_322) rfl) <|
  xAe
theorem xe_79 {s0 : State} {A0 : Array Value} {D : va_G} {ta : Nat → ClassId} {l : Launch} : XAllC s0 A0 D ta l 79 xk_79 := ⟨xe_79_0, xe_79_1, xe_79_2, xe_79_3, xe_79_4, xe_79_5, xe_79_6, xe_79_7, xe_79_8, xe_79_9, xe_79_10, trivial⟩
theorem xe_80_0 {s0 : State} {A0 : Array Value} {D : va_G} {ta : Nat → ClassId} {l : Launch} : XAll s0 A0 D ta l 80 xk_80_0 :=
  xA0 (ok_aload_n (xdd xB_80 dX2_fail_0) rfl rfl) <|
  xA1 (ok_getA (xdd xB_80 dX2_fail_1) rfl (lk_f q229) rfl) <|
  xA0 (ok_iload_n (xdd xB_80 dX2_fail_4) rfl rfl) <|
  xA0 (ok_aload_n (xdd xB_80 dX2_fail_5) rfl rfl) <|
  xA1 (ok_getI (xdd xB_80 dX2_fail_6) rfl (lk_f q235) (by decide)) <|
  xAK rfl (xC1 (ok_callV (xdd xB_80 dX2_fail_9) rfl xq_2 rfl xp_104_2 q671 q672 q673 q116 q674) xC0) <|
  xAR (ok_areturn (xdd xB_80 dX2_fail_12) rfl (Or.inl ⟨_, rfl⟩)) <|
  xAe
theorem xe_80 {s0 : State} {A0 : Array Value} {D : va_G} {ta : Nat → ClassId} {l : Launch} : XAllC s0 A0 D ta l 80 xk_80 := ⟨xe_80_0, trivial⟩
theorem xe_81_0 {s0 : State} {A0 : Array Value} {D : va_G} {ta : Nat → ClassId} {l : Launch} : XAll s0 A0 D ta l 81 xk_81_0 :=
  xA0 (ok_aload_n (xdd xB_81 dX2_townLine_0) rfl rfl) <|
  xA1 (ok_getI (xdd xB_81 dX2_townLine_1) rfl (lk_f q239) (by decide)) <|
  xAB (ok_if_eq (xdd xB_81 dX2_townLine_4) rfl rfl) <|
  xA0 (ok_aload_n (xdd xB_81 dX2_townLine_7) rfl rfl) <|
  xA0 (ok_iconst (xdd xB_81 dX2_townLine_8) rfl rfl (xrg rfl)) <|
  xAK rfl (xC1 (ok_callV (xdd xB_81 dX2_townLine_9) rfl xq_1 rfl xp_80_1 q667 q669 qs7 q112 q670) xC0) <|
  xAT ((xdd xB_81 dX2_townLine_12)) <|
  xA0 (ok_aload_n (xdd xB_81 dX2_townLine_13) rfl rfl) <|
  xAK rfl (xC1 (ok_callV (xdd xB_81 dX2_townLine_14) rfl xq_1 rfl xp_75_0 q569 q571 qs4 q112 q572) xC0) <|
  xA0 (ok_aload_n (xdd xB_81 dX2_townLine_17) rfl rfl) <|
  xA1 (ok_getA (xdd xB_81 dX2_townLine_18) rfl (lk_f q238) rfl) <|
  xA0 (ok_aload_n (xdd xB_81 dX2_townLine_21) rfl rfl) <|
  xA0 (ok_ldcS (xdd xB_81 dX2_townLine_22) rfl rfl) <|
  xA0 (ok_iconst (xdd xB_81 dX2_townLine_24) rfl rfl (xrg rfl)) <|
  xA0 (ok_bipush (xdd xB_81 dX2_townLine_25) rfl rfl (xrg rfl)) <|
  xAK rfl (xC1 (ok_callV (xdd xB_81 dX2_townLine_27) rfl xq_1 rfl xp_82_3 q749 q751 qs9 q112 q752) xC0) <|
  xA1 (ok_putI (xdd xB_81 dX2_townLine_30) rfl (lk_f q519) rfl xfd_109 (Or.inl rfl)) <|
  xAe
theorem xe_81_1 {s0 : State} {A0 : Array Value} {D : va_G} {ta : Nat → ClassId} {l : Launch} : XAll s0 A0 D ta l 81 xk_81_1 :=
  xA0 (ok_aload_n (xdd xB_81 dX2_townLine_33) rfl rfl) <|
  xA1 (ok_getA (xdd xB_81 dX2_townLine_34) rfl (lk_f q238) rfl) <|
  xA0 (ok_aload_n (xdd xB_81 dX2_townLine_37) rfl rfl) <|
  xA0 (ok_ldcS (xdd xB_81 dX2_townLine_38) rfl rfl) <|
  xA0 (ok_iconst (xdd xB_81 dX2_townLine_40) rfl rfl (xrg rfl)) <|
  xA0 (ok_bipush (xdd xB_81 dX2_townLine_41) rfl rfl (xrg rfl)) <|
  xAK rfl (xC1 (ok_callV (xdd xB_81 dX2_townLine_43) rfl xq_1 rfl xp_82_3 q749 q751 qs9 q112 q752) xC0) <|
  xA1 (ok_putI (xdd xB_81 dX2_townLine_46) rfl (lk_f q521) rfl xfd_110 (Or.inl rfl)) <|
  xA0 (ok_aload_n (xdd xB_81 dX2_townLine_49) rfl rfl) <|
  xA0 (ok_iconst (xdd xB_81 dX2_townLine_50) rfl rfl (xrg rfl)) <|
  xA1 (ok_putZ (xdd xB_81 dX2_townLine_51) rfl (lk_f q239) rfl xfd_31 (Or.inl rfl)) <|
  xAR (ok_vreturn (xdd xB_81 dX2_townLine_54) rfl) <|
  xAe
theorem xe_81 {s0 : State} {A0 : Array Value} {D : va_G} {ta : Nat → ClassId} {l : Launch} : XAllC s0 A0 D ta l 81 xk_81 := ⟨xe_81_0, xe_81_1, trivial⟩
theorem xe_82_0 {s0 : State} {A0 : Array Value} {D : va_G} {ta : Nat → ClassId} {l : Launch} : XAll s0 A0 D ta l 82 xk_82_0 :=
  xA0 (ok_aload_n (xdd xB_82 dX2_after_0) rfl rfl) <|
  xA0 (ok_aload_n (xdd xB_82 dX2_after_1) rfl rfl) <|
  xAK rfl (xC1 (ok_callV (xdd xB_82 dX2_after_2) rfl xq_1 rfl xp_83_1 q753 q755 qs10 q112 q756) xC0) <|
  xA0 (ok_aload_n (xdd xB_82 dX2_after_5) rfl rfl) <|
  xA0 (ok_iload_n (xdd xB_82 dX2_after_6) rfl rfl) <|
  xA0 (ok_iload_n (xdd xB_82 dX2_after_7) rfl rfl) <|
  xAK rfl (xC1 (ok_callV (xdd xB_82 dX2_after_8) rfl xq_1 rfl xp_85_2 q761 q763 qs12 q112 q764) xC0) <|
  xAR (ok_ireturn (xdd xB_82 dX2_after_11) rfl) <|
  xAe
theorem xe_82 {s0 : State} {A0 : Array Value} {D : va_G} {ta : Nat → ClassId} {l : Launch} : XAllC s0 A0 D ta l 82 xk_82 := ⟨xe_82_0, trivial⟩
theorem xe_83_0 {s0 : State} {A0 : Array Value} {D : va_G} {ta : Nat → ClassId} {l : Launch} : XAll s0 A0 D ta l 83 xk_83_0 :=
  xA0 (ok_aload_n (xdd xB_83 dX2_must_0) rfl rfl) <|
  xA0 (ok_aload_n (xdd xB_83 dX2_must_1) rfl rfl) <|
  xAK rfl (xC1 (ok_callV (xdd xB_83 dX2_must_2) rfl xq_1 rfl xp_84_1 q757 q759 qs11 q112 q760) xC0) <|
  xAB (ok_if_ne (xdd xB_83 dX2_must_5) rfl rfl) <|
  xA0 (ok_aload_n (xdd xB_83 dX2_must_8) rfl rfl) <|
  xA0 (ok_iconst (xdd xB_83 dX2_must_9) rfl rfl (xrg rfl)) <|
  xAK rfl (xC1 (ok_callV (xdd xB_83 dX2_must_10) rfl xq_1 rfl xp_80_1 q667 q669 qs7 q112 q670) xC0) <|
  xAT ((xdd xB_83 dX2_must_13)) <|
  xAR (ok_vreturn (xdd xB_83 dX2_must_14) rfl) <|
  xAe
theorem xe_83 {s0 : State} {A0 : Array Value} {D : va_G} {ta : Nat → ClassId} {l : Launch} : XAllC s0 A0 D ta l 83 xk_83 := ⟨xe_83_0, trivial⟩
theorem xe_84_0 {s0 : State} {A0 : Array Value} {D : va_G} {ta : Nat → ClassId} {l : Launch} : XAll s0 A0 D ta l 84 xk_84_0 :=
  xA0 (ok_aload_n (xdd xB_84 dX2_takes_0) rfl rfl) <|
  xA1 (ok_getI (xdd xB_84 dX2_takes_1) rfl (lk_f q234) (by decide)) <|
  xA0 (ok_iconst (xdd xB_84 dX2_takes_4) rfl rfl (xrg rfl)) <|
  xAB (ok_icmp_ne (xdd xB_84 dX2_takes_5) rfl rfl) <|
  xA0 (ok_aload_n (xdd xB_84 dX2_takes_8) rfl rfl) <|
  xA1 (ok_getA (xdd xB_84 dX2_takes_9) rfl (lk_f q237) rfl) <|
  xA0 (ok_aload_n (xdd xB_84 dX2_takes_12) rfl rfl) <|
  xAK rfl (xC1 (ok_callV (xdd xB_84 dX2_takes_13) rfl xq_16 rfl xp_267_1 q729 q730 q731 q126 q732) xC0) <|
  xAB (ok_if_ne (xdd xB_84 dX2_takes_16) rfl rfl) <|
  xA0 (ok_iconst (xdd xB_84 dX2_takes_19) rfl rfl (xrg rfl)) <|
  xAR (ok_zreturn (xdd xB_84 dX2_takes_20) rfl) <|
  xA0 (ok_aload_n (xdd xB_84 dX2_takes_21) rfl rfl) <|
  xAK rfl (xC1 (ok_callV (xdd xB_84 dX2_takes_22) rfl xq_1 rfl xp_75_0 q569 q571 qs4 q112 q572) xC0) <|
  xA0 (ok_iconst (xdd xB_84 dX2_takes_25) rfl rfl (xrg rfl)) <|
  xAR (ok_zreturn (xdd xB_84 dX2_takes_26) rfl) <|
  xAe
theorem xe_84 {s0 : State} {A0 : Array Value} {D : va_G} {ta : Nat → ClassId} {l : Launch} : XAllC s0 A0 D ta l 84 xk_84 := ⟨xe_84_0, trivial⟩
theorem xe_85_0 {s0 : State} {A0 : Array Value} {D : va_G} {ta : Nat → ClassId} {l : Launch} : XAll s0 A0 D ta l 85 xk_85_0 :=
  xA0 (ok_aload_n (xdd xB_85 dX2_number_0) rfl rfl) <|
  xA1 (ok_getI (xdd xB_85 dX2_number_1) rfl (lk_f q234) (by decide)) <|
  xA0 (ok_iconst (xdd xB_85 dX2_number_4) rfl rfl (xrg rfl)) <|
  xAB (ok_icmp_eq (xdd xB_85 dX2_number_5) rfl rfl) <|
  xA0 (ok_aload_n (xdd xB_85 dX2_number_8) rfl rfl) <|
  xA0 (ok_iconst (xdd xB_85 dX2_number_9) rfl rfl (xrg rfl)) <|
  xAK rfl (xC1 (ok_callV (xdd xB_85 dX2_number_10) rfl xq_1 rfl xp_80_1 q667 q669 qs7 q112 q670) xC0) <|
  xAT ((xdd xB_85 dX2_number_13)) <|
  xA0 (ok_aload_n (xdd xB_85 dX2_number_14) rfl rfl) <|
  xA1 (ok_getI (xdd xB_85 dX2_number_15) rfl (lk_f q236) (by decide)) <|
  xA0 (ok_iload_n (xdd xB_85 dX2_number_18) rfl rfl) <|
  xA0 (ok_iload_n (xdd xB_85 dX2_number_19) rfl rfl) <|
  xAK rfl (xC1 (ok_callSN (xdd xB_85 dX2_number_20) rfl xp_6_3 q580 q482 q111 q483) xC0) <|
  xAB (ok_if_ne (xdd xB_85 dX2_number_23) rfl rfl) <|
  xA0 (ok_aload_n (xdd xB_85 dX2_number_26) rfl rfl) <|
  xA0 (ok_iconst (xdd xB_85 dX2_number_27) rfl rfl (xrg rfl)) <|
  xAK rfl (xC1 (ok_callV (xdd xB_85 dX2_number_28) rfl xq_1 rfl xp_80_1 q667 q669 qs7 q112 q670) xC0) <|
  xAT ((xdd xB_85 dX2_number_31)) <|
  xAe
theorem xe_85_1 {s0 : State} {A0 : Array Value} {D : va_G} {ta : Nat → ClassId} {l : Launch} : XAll s0 A0 D ta l 85 xk_85_1 :=
  xA0 (ok_aload_n (xdd xB_85 dX2_number_32) rfl rfl) <|
  xA1 (ok_getI (xdd xB_85 dX2_number_33) rfl (lk_f q236) (by decide)) <|
  xA0 (ok_istore_n (xdd xB_85 dX2_number_36) rfl rfl) <|
  xA0 (ok_aload_n (xdd xB_85 dX2_number_37) rfl rfl) <|
  xAK rfl (xC1 (ok_callV (xdd xB_85 dX2_number_38) rfl xq_1 rfl xp_75_0 q569 q571 qs4 q112 q572) xC0) <|
  xA0 (ok_iload_n (xdd xB_85 dX2_number_41) rfl rfl) <|
  xAR (ok_ireturn (xdd xB_85 dX2_number_42) rfl) <|
  xAe
theorem xe_85 {s0 : State} {A0 : Array Value} {D : va_G} {ta : Nat → ClassId} {l : Launch} : XAllC s0 A0 D ta l 85 xk_85 := ⟨xe_85_0, xe_85_1, trivial⟩
theorem xe_86_0 {s0 : State} {A0 : Array Value} {D : va_G} {ta : Nat → ClassId} {l : Launch} : XAll s0 A0 D ta l 86 xk_86_0 :=
  xA0 (ok_aload_n (xdd xB_86 dX2_houseLine_0) rfl rfl) <|
  xA0 (ok_aload_n (xdd xB_86 dX2_houseLine_1) rfl rfl) <|
  xA1 (ok_getA (xdd xB_86 dX2_houseLine_2) rfl (lk_f q238) rfl) <|
  xA1 (ok_getI (xdd xB_86 dX2_houseLine_5) rfl (lk_f q529) (by decide)) <|
  xA0 (ok_bipush (xdd xB_86 dX2_houseLine_8) rfl rfl (xrg rfl)) <|
  xAB (ok_icmp_ge (xdd xB_86 dX2_houseLine_10) rfl rfl) <|
  xA0 (ok_iconst (xdd xB_86 dX2_houseLine_13) rfl rfl (xrg rfl)) <|
  xA0 (ok_goto (xdd xB_86 dX2_houseLine_14) rfl) <|
  xA0 (ok_iconst (xdd xB_86 dX2_houseLine_17) rfl rfl (xrg rfl)) <|
  xAK rfl (xC1 (ok_callV (xdd xB_86 dX2_houseLine_18) rfl xq_1 rfl xp_87_1 q770 q772 qs14 q112 q773) xC0) <|
  xA0 (ok_newo (xdd xB_86 dX2_houseLine_21) rfl xq_11 q774 q775 q132) <|
  xA0 (ok_dup (xdd xB_86 dX2_houseLine_24) rfl) <|
  xA0 (ok_aload_n (xdd xB_86 dX2_houseLine_25) rfl rfl) <|
  xAK rfl (xC1 (ok_callV (xdd xB_86 dX2_houseLine_26) rfl xq_1 rfl xp_88_0 q776 q778 qs15 q112 q779) xC0) <|
  xA0 (ok_aload_n (xdd xB_86 dX2_houseLine_29) rfl rfl) <|
  xA1 (ok_getA (xdd xB_86 dX2_houseLine_30) rfl (lk_f q238) rfl) <|
  xAe
theorem xe_86_1 {s0 : State} {A0 : Array Value} {D : va_G} {ta : Nat → ClassId} {l : Launch} : XAll s0 A0 D ta l 86 xk_86_1 :=
  xA1 (ok_getI (xdd xB_86 dX2_houseLine_33) rfl (lk_f q529) (by decide)) <|
  xAK rfl (xC1 (ok_callI (xdd xB_86 dX2_houseLine_36) rfl xq_11 rfl rfl xp_283_2 q789 q790 q132 q791) xC0) <|
  xA0 (ok_astore_n (xdd xB_86 dX2_houseLine_39) rfl rfl) <|
  xA0 (ok_aload_n (xdd xB_86 dX2_houseLine_40) rfl rfl) <|
  xA0 (ok_aload_n (xdd xB_86 dX2_houseLine_41) rfl rfl) <|
  xA0 (ok_ldcS (xdd xB_86 dX2_houseLine_42) rfl rfl) <|
  xA0 (ok_iconst (xdd xB_86 dX2_houseLine_44) rfl rfl (xrg rfl)) <|
  xA0 (ok_bipush (xdd xB_86 dX2_houseLine_45) rfl rfl (xrg rfl)) <|
  xAK rfl (xC1 (ok_callV (xdd xB_86 dX2_houseLine_47) rfl xq_1 rfl xp_82_3 q749 q751 qs9 q112 q752) xC0) <|
  xA1 (ok_putI (xdd xB_86 dX2_houseLine_50) rfl (lk_f q800) rfl xfd_120 (Or.inl rfl)) <|
  xA0 (ok_aload_n (xdd xB_86 dX2_houseLine_53) rfl rfl) <|
  xA0 (ok_aload_n (xdd xB_86 dX2_houseLine_54) rfl rfl) <|
  xA0 (ok_ldcS (xdd xB_86 dX2_houseLine_55) rfl rfl) <|
  xA0 (ok_iconst (xdd xB_86 dX2_houseLine_57) rfl rfl (xrg rfl)) <|
  xA0 (ok_bipush (xdd xB_86 dX2_houseLine_58) rfl rfl (xrg rfl)) <|
  xAK rfl (xC1 (ok_callV (xdd xB_86 dX2_houseLine_60) rfl xq_1 rfl xp_82_3 q749 q751 qs9 q112 q752) xC0) <|
  xA1 (ok_putI (xdd xB_86 dX2_houseLine_63) rfl (lk_f q802) rfl xfd_121 (Or.inl rfl)) <|
  xAe
theorem xe_86_2 {s0 : State} {A0 : Array Value} {D : va_G} {ta : Nat → ClassId} {l : Launch} : XAll s0 A0 D ta l 86 xk_86_2 :=
  xA0 (ok_aload_n (xdd xB_86 dX2_houseLine_66) rfl rfl) <|
  xA0 (ok_aload_n (xdd xB_86 dX2_houseLine_67) rfl rfl) <|
  xA0 (ok_ldcS (xdd xB_86 dX2_houseLine_68) rfl rfl) <|
  xA0 (ok_iconst (xdd xB_86 dX2_houseLine_70) rfl rfl (xrg rfl)) <|
  xA0 (ok_sipush (xdd xB_86 dX2_houseLine_71) rfl rfl (xrg rfl)) <|
  xAK rfl (xC1 (ok_callV (xdd xB_86 dX2_houseLine_74) rfl xq_1 rfl xp_82_3 q749 q751 qs9 q112 q752) xC0) <|
  xA1 (ok_putI (xdd xB_86 dX2_houseLine_77) rfl (lk_f q804) rfl xfd_122 (Or.inl rfl)) <|
  xA0 (ok_aload_n (xdd xB_86 dX2_houseLine_80) rfl rfl) <|
  xA0 (ok_ldcS (xdd xB_86 dX2_houseLine_81) rfl rfl) <|
  xAK rfl (xC1 (ok_callV (xdd xB_86 dX2_houseLine_83) rfl xq_1 rfl xp_83_1 q753 q755 qs10 q112 q756) xC0) <|
  xA0 (ok_aload_n (xdd xB_86 dX2_houseLine_86) rfl rfl) <|
  xA0 (ok_aload_n (xdd xB_86 dX2_houseLine_87) rfl rfl) <|
  xAK rfl (xC1 (ok_callV (xdd xB_86 dX2_houseLine_88) rfl xq_1 rfl xp_90_0 q849 q851 qs17 q112 q852) xC0) <|
  xA1 (ok_putA (xdd xB_86 dX2_houseLine_91) rfl (lk_f q797) rfl xfd_119 (Or.inl ⟨_, rfl⟩) (Or.inl rfl)) <|
  xA0 (ok_aload_n (xdd xB_86 dX2_houseLine_94) rfl rfl) <|
  xA1 (ok_getA (xdd xB_86 dX2_houseLine_95) rfl (lk_f q238) rfl) <|
  xAe
theorem xe_86_3 {s0 : State} {A0 : Array Value} {D : va_G} {ta : Nat → ClassId} {l : Launch} : XAll s0 A0 D ta l 86 xk_86_3 :=
  xA1 (ok_getA (xdd xB_86 dX2_houseLine_98) rfl (lk_f q507) rfl) <|
  xA0 (ok_aload_n (xdd xB_86 dX2_houseLine_101) rfl rfl) <|
  xA1 (ok_getA (xdd xB_86 dX2_houseLine_102) rfl (lk_f q238) rfl) <|
  xA1 (ok_getI (xdd xB_86 dX2_houseLine_105) rfl (lk_f q529) (by decide)) <|
  xA0 (ok_aload_n (xdd xB_86 dX2_houseLine_108) rfl rfl) <|
  xA1 (ok_aastore (xdd xB_86 dX2_houseLine_109) rfl) <|
  xA0 (ok_aload_n (xdd xB_86 dX2_houseLine_110) rfl rfl) <|
  xA1 (ok_getA (xdd xB_86 dX2_houseLine_111) rfl (lk_f q238) rfl) <|
  xA0 (ok_dup (xdd xB_86 dX2_houseLine_114) rfl) <|
  xA1 (ok_getI (xdd xB_86 dX2_houseLine_115) rfl (lk_f q529) (by decide)) <|
  xA0 (ok_iconst (xdd xB_86 dX2_houseLine_118) rfl rfl (xrg rfl)) <|
  xA1 (ok_iadd (xdd xB_86 dX2_houseLine_119) rfl) <|
  xA1 (ok_putI (xdd xB_86 dX2_houseLine_120) rfl (lk_f q529) rfl xfd_111 (Or.inl rfl)) <|
  xAR (ok_vreturn (xdd xB_86 dX2_houseLine_123) rfl) <|
  xAe
theorem xe_86 {s0 : State} {A0 : Array Value} {D : va_G} {ta : Nat → ClassId} {l : Launch} : XAllC s0 A0 D ta l 86 xk_86 := ⟨xe_86_0, xe_86_1, xe_86_2, xe_86_3, trivial⟩
theorem xe_87_0 {s0 : State} {A0 : Array Value} {D : va_G} {ta : Nat → ClassId} {l : Launch} : XAll s0 A0 D ta l 87 xk_87_0 :=
  xA0 (ok_iload_n (xdd xB_87 dX2_begins_0) rfl rfl) <|
  xAB (ok_if_ne (xdd xB_87 dX2_begins_1) rfl rfl) <|
  xA0 (ok_aload_n (xdd xB_87 dX2_begins_4) rfl rfl) <|
  xA0 (ok_iconst (xdd xB_87 dX2_begins_5) rfl rfl (xrg rfl)) <|
  xAK rfl (xC1 (ok_callV (xdd xB_87 dX2_begins_6) rfl xq_1 rfl xp_80_1 q667 q669 qs7 q112 q670) xC0) <|
  xAT ((xdd xB_87 dX2_begins_9)) <|
  xA0 (ok_aload_n (xdd xB_87 dX2_begins_10) rfl rfl) <|
  xA1 (ok_getI (xdd xB_87 dX2_begins_11) rfl (lk_f q239) (by decide)) <|
  xAB (ok_if_ne (xdd xB_87 dX2_begins_14) rfl rfl) <|
  xA0 (ok_aload_n (xdd xB_87 dX2_begins_17) rfl rfl) <|
  xA0 (ok_bipush (xdd xB_87 dX2_begins_18) rfl rfl (xrg rfl)) <|
  xAK rfl (xC1 (ok_callV (xdd xB_87 dX2_begins_20) rfl xq_1 rfl xp_80_1 q667 q669 qs7 q112 q670) xC0) <|
  xAT ((xdd xB_87 dX2_begins_23)) <|
  xA0 (ok_aload_n (xdd xB_87 dX2_begins_24) rfl rfl) <|
  xAK rfl (xC1 (ok_callV (xdd xB_87 dX2_begins_25) rfl xq_1 rfl xp_75_0 q569 q571 qs4 q112 q572) xC0) <|
  xAR (ok_vreturn (xdd xB_87 dX2_begins_28) rfl) <|
  xAe
theorem xe_87 {s0 : State} {A0 : Array Value} {D : va_G} {ta : Nat → ClassId} {l : Launch} : XAllC s0 A0 D ta l 87 xk_87 := ⟨xe_87_0, trivial⟩
theorem xe_88_0 {s0 : State} {A0 : Array Value} {D : va_G} {ta : Nat → ClassId} {l : Launch} : XAll s0 A0 D ta l 88 xk_88_0 :=
  xA0 (ok_aload_n (xdd xB_88 dX2_newName_0) rfl rfl) <|
  xAK rfl (xC1 (ok_callV (xdd xB_88 dX2_newName_1) rfl xq_1 rfl xp_89_0 q780 q782 qs16 q112 q783) xC0) <|
  xA0 (ok_aload_n (xdd xB_88 dX2_newName_4) rfl rfl) <|
  xA1 (ok_getA (xdd xB_88 dX2_newName_5) rfl (lk_f q238) rfl) <|
  xA0 (ok_aload_n (xdd xB_88 dX2_newName_8) rfl rfl) <|
  xA1 (ok_getA (xdd xB_88 dX2_newName_9) rfl (lk_f q237) rfl) <|
  xAK rfl (xC1 (ok_callV (xdd xB_88 dX2_newName_12) rfl xq_10 rfl xp_257_1 q784 q785 q786 q125 q787) xC0) <|
  xAB (ok_ifnull (xdd xB_88 dX2_newName_15) rfl rfl) <|
  xA0 (ok_aload_n (xdd xB_88 dX2_newName_18) rfl rfl) <|
  xA0 (ok_iconst (xdd xB_88 dX2_newName_19) rfl rfl (xrg rfl)) <|
  xAK rfl (xC1 (ok_callV (xdd xB_88 dX2_newName_20) rfl xq_1 rfl xp_80_1 q667 q669 qs7 q112 q670) xC0) <|
  xAT ((xdd xB_88 dX2_newName_23)) <|
  xA0 (ok_aload_n (xdd xB_88 dX2_newName_24) rfl rfl) <|
  xA1 (ok_getA (xdd xB_88 dX2_newName_25) rfl (lk_f q237) rfl) <|
  xA0 (ok_astore_n (xdd xB_88 dX2_newName_28) rfl rfl) <|
  xA0 (ok_aload_n (xdd xB_88 dX2_newName_29) rfl rfl) <|
  xAK rfl (xC1 (ok_callV (xdd xB_88 dX2_newName_30) rfl xq_1 rfl xp_75_0 q569 q571 qs4 q112 q572) xC0) <|
  xAe
theorem xe_88_1 {s0 : State} {A0 : Array Value} {D : va_G} {ta : Nat → ClassId} {l : Launch} : XAll s0 A0 D ta l 88 xk_88_1 :=
  xA0 (ok_aload_n (xdd xB_88 dX2_newName_33) rfl rfl) <|
  xAR (ok_areturn (xdd xB_88 dX2_newName_34) rfl (Or.inl ⟨_, rfl⟩)) <|
  xAe
theorem xe_88 {s0 : State} {A0 : Array Value} {D : va_G} {ta : Nat → ClassId} {l : Launch} : XAllC s0 A0 D ta l 88 xk_88 := ⟨xe_88_0, xe_88_1, trivial⟩
theorem xe_89_0 {s0 : State} {A0 : Array Value} {D : va_G} {ta : Nat → ClassId} {l : Launch} : XAll s0 A0 D ta l 89 xk_89_0 :=
  xA0 (ok_aload_n (xdd xB_89 dX2_mustName_0) rfl rfl) <|
  xA1 (ok_getI (xdd xB_89 dX2_mustName_1) rfl (lk_f q234) (by decide)) <|
  xA0 (ok_iconst (xdd xB_89 dX2_mustName_4) rfl rfl (xrg rfl)) <|
  xAB (ok_icmp_eq (xdd xB_89 dX2_mustName_5) rfl rfl) <|
  xA0 (ok_aload_n (xdd xB_89 dX2_mustName_8) rfl rfl) <|
  xA0 (ok_iconst (xdd xB_89 dX2_mustName_9) rfl rfl (xrg rfl)) <|
  xAK rfl (xC1 (ok_callV (xdd xB_89 dX2_mustName_10) rfl xq_1 rfl xp_80_1 q667 q669 qs7 q112 q670) xC0) <|
  xAT ((xdd xB_89 dX2_mustName_13)) <|
  xA0 (ok_aload_n (xdd xB_89 dX2_mustName_14) rfl rfl) <|
  xA1 (ok_getA (xdd xB_89 dX2_mustName_15) rfl (lk_f q237) rfl) <|
  xA0 (ok_astore_n (xdd xB_89 dX2_mustName_18) rfl rfl) <|
  xA0 (ok_iconst (xdd xB_89 dX2_mustName_19) rfl rfl (xrg rfl)) <|
  xA0 (ok_istore_n (xdd xB_89 dX2_mustName_20) rfl rfl) <|
  xA0 (ok_aload_n (xdd xB_89 dX2_mustName_21) rfl rfl) <|
  xAK rfl (xC1 (ok_callV (xdd xB_89 dX2_mustName_22) rfl xq_16 rfl xp_265_0 q675 q676 q677 q126 q678) xC0) <|
  xA0 (ok_lsw (xdd xB_89 dX2_mustName_25) rfl rfl rfl rfl (np := 0)) <|
  xAe
theorem xe_89_1 {s0 : State} {A0 : Array Value} {D : va_G} {ta : Nat → ClassId} {l : Launch} : XAll s0 A0 D ta l 89 xk_89_1 :=
  xAe
theorem xe_89_2 {s0 : State} {A0 : Array Value} {D : va_G} {ta : Nat → ClassId} {l : Launch} : XAll s0 A0 D ta l 89 xk_89_2 :=
  xAe
theorem xe_89_3 {s0 : State} {A0 : Array Value} {D : va_G} {ta : Nat → ClassId} {l : Launch} : XAll s0 A0 D ta l 89 xk_89_3 :=
  xA0 (ok_aload_n (xdd xB_89 dX2_mustName_100) rfl rfl) <|
  xA0 (ok_ldcS (xdd xB_89 dX2_mustName_101) rfl rfl) <|
  xAK rfl (xC1 (ok_callV (xdd xB_89 dX2_mustName_103) rfl xq_16 rfl xp_267_1 q729 q730 q731 q126 q732) xC0) <|
  xAB (ok_if_eq (xdd xB_89 dX2_mustName_106) rfl rfl) <|
  xA0 (ok_iconst (xdd xB_89 dX2_mustName_109) rfl rfl (xrg rfl)) <|
  xA0 (ok_istore_n (xdd xB_89 dX2_mustName_110) rfl rfl) <|
  xA0 (ok_goto (xdd xB_89 dX2_mustName_111) rfl) <|
  xA0 (ok_aload_n (xdd xB_89 dX2_mustName_114) rfl rfl) <|
  xA0 (ok_ldcS (xdd xB_89 dX2_mustName_115) rfl rfl) <|
  xAK rfl (xC1 (ok_callV (xdd xB_89 dX2_mustName_117) rfl xq_16 rfl xp_267_1 q729 q730 q731 q126 q732) xC0) <|
  xAB (ok_if_eq (xdd xB_89 dX2_mustName_120) rfl rfl) <|
  xA0 (ok_iconst (xdd xB_89 dX2_mustName_123) rfl rfl (xrg rfl)) <|
  xA0 (ok_istore_n (xdd xB_89 dX2_mustName_124) rfl rfl) <|
  xA0 (ok_goto (xdd xB_89 dX2_mustName_125) rfl) <|
  xAe
theorem xe_89_4 {s0 : State} {A0 : Array Value} {D : va_G} {ta : Nat → ClassId} {l : Launch} : XAll s0 A0 D ta l 89 xk_89_4 :=
  xA0 (ok_aload_n (xdd xB_89 dX2_mustName_128) rfl rfl) <|
  xA0 (ok_ldcS (xdd xB_89 dX2_mustName_129) rfl rfl) <|
  xAK rfl (xC1 (ok_callV (xdd xB_89 dX2_mustName_131) rfl xq_16 rfl xp_267_1 q729 q730 q731 q126 q732) xC0) <|
  xAB (ok_if_eq (xdd xB_89 dX2_mustName_134) rfl rfl) <|
  xA0 (ok_iconst (xdd xB_89 dX2_mustName_137) rfl rfl (xrg rfl)) <|
  xA0 (ok_istore_n (xdd xB_89 dX2_mustName_138) rfl rfl) <|
  xA0 (ok_goto (xdd xB_89 dX2_mustName_139) rfl) <|
  xA0 (ok_aload_n (xdd xB_89 dX2_mustName_142) rfl rfl) <|
  xA0 (ok_ldcS (xdd xB_89 dX2_mustName_143) rfl rfl) <|
  xAK rfl (xC1 (ok_callV (xdd xB_89 dX2_mustName_145) rfl xq_16 rfl xp_267_1 q729 q730 q731 q126 q732) xC0) <|
  xAB (ok_if_eq (xdd xB_89 dX2_mustName_148) rfl rfl) <|
  xA0 (ok_iconst (xdd xB_89 dX2_mustName_151) rfl rfl (xrg rfl)) <|
  xA0 (ok_istore_n (xdd xB_89 dX2_mustName_152) rfl rfl) <|
  xA0 (ok_goto (xdd xB_89 dX2_mustName_153) rfl) <|
  xA0 (ok_aload_n (xdd xB_89 dX2_mustName_156) rfl rfl) <|
  xA0 (ok_ldcS (xdd xB_89 dX2_mustName_157) rfl rfl) <|
  xAK rfl (xC1 (ok_callV (xdd xB_89 dX2_mustName_159) rfl xq_16 rfl xp_267_1 q729 q730 q731 q126 q732) xC0) <|
  xAe
theorem xe_89_5 {s0 : State} {A0 : Array Value} {D : va_G} {ta : Nat → ClassId} {l : Launch} : XAll s0 A0 D ta l 89 xk_89_5 :=
  xAB (ok_if_eq (xdd xB_89 dX2_mustName_162) rfl rfl) <|
  xA0 (ok_iconst (xdd xB_89 dX2_mustName_165) rfl rfl (xrg rfl)) <|
  xA0 (ok_istore_n (xdd xB_89 dX2_mustName_166) rfl rfl) <|
  xA0 (ok_goto (xdd xB_89 dX2_mustName_167) rfl) <|
  xA0 (ok_aload_n (xdd xB_89 dX2_mustName_170) rfl rfl) <|
  xA0 (ok_ldcS (xdd xB_89 dX2_mustName_171) rfl rfl) <|
  xAK rfl (xC1 (ok_callV (xdd xB_89 dX2_mustName_173) rfl xq_16 rfl xp_267_1 q729 q730 q731 q126 q732) xC0) <|
  xAB (ok_if_eq (xdd xB_89 dX2_mustName_176) rfl rfl) <|
  xA0 (ok_iconst (xdd xB_89 dX2_mustName_179) rfl rfl (xrg rfl)) <|
  xA0 (ok_istore_n (xdd xB_89 dX2_mustName_180) rfl rfl) <|
  xA0 (ok_goto (xdd xB_89 dX2_mustName_181) rfl) <|
  xA0 (ok_aload_n (xdd xB_89 dX2_mustName_184) rfl rfl) <|
  xA0 (ok_ldcS (xdd xB_89 dX2_mustName_185) rfl rfl) <|
  xAK rfl (xC1 (ok_callV (xdd xB_89 dX2_mustName_187) rfl xq_16 rfl xp_267_1 q729 q730 q731 q126 q732) xC0) <|
  xAB (ok_if_eq (xdd xB_89 dX2_mustName_190) rfl rfl) <|
  xAe
theorem xe_89_6 {s0 : State} {A0 : Array Value} {D : va_G} {ta : Nat → ClassId} {l : Launch} : XAll s0 A0 D ta l 89 xk_89_6 :=
  xA0 (ok_bipush (xdd xB_89 dX2_mustName_193) rfl rfl (xrg rfl)) <|
  xA0 (ok_istore_n (xdd xB_89 dX2_mustName_195) rfl rfl) <|
  xA0 (ok_goto (xdd xB_89 dX2_mustName_196) rfl) <|
  xA0 (ok_aload_n (xdd xB_89 dX2_mustName_199) rfl rfl) <|
  xA0 (ok_ldcS (xdd xB_89 dX2_mustName_200) rfl rfl) <|
  xAK rfl (xC1 (ok_callV (xdd xB_89 dX2_mustName_202) rfl xq_16 rfl xp_267_1 q729 q730 q731 q126 q732) xC0) <|
  xAB (ok_if_eq (xdd xB_89 dX2_mustName_205) rfl rfl) <|
  xA0 (ok_bipush (xdd xB_89 dX2_mustName_208) rfl rfl (xrg rfl)) <|
  xA0 (ok_istore_n (xdd xB_89 dX2_mustName_210) rfl rfl) <|
  xA0 (ok_iload_n (xdd xB_89 dX2_mustName_211) rfl rfl) <|
  xA0 (ok_tsw (xdd xB_89 dX2_mustName_212) rfl rfl rfl rfl (np := 0)) <|
  xAe
theorem xe_89_7 {s0 : State} {A0 : Array Value} {D : va_G} {ta : Nat → ClassId} {l : Launch} : XAll s0 A0 D ta l 89 xk_89_7 :=
  xAe
theorem xe_89_8 {s0 : State} {A0 : Array Value} {D : va_G} {ta : Nat → ClassId} {l : Launch} : XAll s0 A0 D ta l 89 xk_89_8 :=
  xA0 (ok_aload_n (xdd xB_89 dX2_mustName_260) rfl rfl) <|
  xA0 (ok_iconst (xdd xB_89 dX2_mustName_261) rfl rfl (xrg rfl)) <|
  xAK rfl (xC1 (ok_callV (xdd xB_89 dX2_mustName_262) rfl xq_1 rfl xp_80_1 q667 q669 qs7 q112 q670) xC0) <|
  xAT ((xdd xB_89 dX2_mustName_265)) <|
  xAR (ok_vreturn (xdd xB_89 dX2_mustName_266) rfl) <|
  xAe
theorem xe_89 {s0 : State} {A0 : Array Value} {D : va_G} {ta : Nat → ClassId} {l : Launch} : XAllC s0 A0 D ta l 89 xk_89 := ⟨xe_89_0, xe_89_1, xe_89_2, xe_89_3, xe_89_4, xe_89_5, xe_89_6, xe_89_7, xe_89_8, trivial⟩
theorem xe_90_0 {s0 : State} {A0 : Array Value} {D : va_G} {ta : Nat → ClassId} {l : Launch} : XAll s0 A0 D ta l 90 xk_90_0 :=
  xA0 (ok_aload_n (xdd xB_90 dX2_anyWord_0) rfl rfl) <|
  xA1 (ok_getI (xdd xB_90 dX2_anyWord_1) rfl (lk_f q234) (by decide)) <|
  xA0 (ok_iconst (xdd xB_90 dX2_anyWord_4) rfl rfl (xrg rfl)) <|
  xAB (ok_icmp_eq (xdd xB_90 dX2_anyWord_5) rfl rfl) <|
  xA0 (ok_aload_n (xdd xB_90 dX2_anyWord_8) rfl rfl) <|
  xA0 (ok_iconst (xdd xB_90 dX2_anyWord_9) rfl rfl (xrg rfl)) <|
  xAK rfl (xC1 (ok_callV (xdd xB_90 dX2_anyWord_10) rfl xq_1 rfl xp_80_1 q667 q669 qs7 q112 q670) xC0) <|
  xAT ((xdd xB_90 dX2_anyWord_13)) <|
  xA0 (ok_aload_n (xdd xB_90 dX2_anyWord_14) rfl rfl) <|
  xA1 (ok_getA (xdd xB_90 dX2_anyWord_15) rfl (lk_f q237) rfl) <|
  xA0 (ok_astore_n (xdd xB_90 dX2_anyWord_18) rfl rfl) <|
  xA0 (ok_aload_n (xdd xB_90 dX2_anyWord_19) rfl rfl) <|
  xAK rfl (xC1 (ok_callV (xdd xB_90 dX2_anyWord_20) rfl xq_1 rfl xp_75_0 q569 q571 qs4 q112 q572) xC0) <|
  xA0 (ok_aload_n (xdd xB_90 dX2_anyWord_23) rfl rfl) <|
  xAR (ok_areturn (xdd xB_90 dX2_anyWord_24) rfl (Or.inl ⟨_, rfl⟩)) <|
  xAe
theorem xe_90 {s0 : State} {A0 : Array Value} {D : va_G} {ta : Nat → ClassId} {l : Launch} : XAllC s0 A0 D ta l 90 xk_90 := ⟨xe_90_0, trivial⟩
theorem xe_91_0 {s0 : State} {A0 : Array Value} {D : va_G} {ta : Nat → ClassId} {l : Launch} : XAll s0 A0 D ta l 91 xk_91_0 :=
  xA0 (ok_aload_n (xdd xB_91 dX2_wrongLine_0) rfl rfl) <|
  xA0 (ok_iconst (xdd xB_91 dX2_wrongLine_1) rfl rfl (xrg rfl)) <|
  xAK rfl (xC1 (ok_callV (xdd xB_91 dX2_wrongLine_2) rfl xq_1 rfl xp_87_1 q770 q772 qs14 q112 q773) xC0) <|
  xA0 (ok_aload_n (xdd xB_91 dX2_wrongLine_5) rfl rfl) <|
  xAK rfl (xC1 (ok_callV (xdd xB_91 dX2_wrongLine_6) rfl xq_1 rfl xp_92_0 q857 q859 qs19 q112 q860) xC0) <|
  xA0 (ok_astore_n (xdd xB_91 dX2_wrongLine_9) rfl rfl) <|
  xA0 (ok_aload_n (xdd xB_91 dX2_wrongLine_10) rfl rfl) <|
  xA1 (ok_getI (xdd xB_91 dX2_wrongLine_11) rfl (lk_f q811) (by decide)) <|
  xA0 (ok_bipush (xdd xB_91 dX2_wrongLine_14) rfl rfl (xrg rfl)) <|
  xAB (ok_icmp_eq (xdd xB_91 dX2_wrongLine_16) rfl rfl) <|
  xA0 (ok_aload_n (xdd xB_91 dX2_wrongLine_19) rfl rfl) <|
  xA0 (ok_iconst (xdd xB_91 dX2_wrongLine_20) rfl rfl (xrg rfl)) <|
  xAK rfl (xC1 (ok_callV (xdd xB_91 dX2_wrongLine_21) rfl xq_1 rfl xp_80_1 q667 q669 qs7 q112 q670) xC0) <|
  xAT ((xdd xB_91 dX2_wrongLine_24)) <|
  xA0 (ok_aload_n (xdd xB_91 dX2_wrongLine_25) rfl rfl) <|
  xAK rfl (xC1 (ok_callV (xdd xB_91 dX2_wrongLine_26) rfl xq_1 rfl xp_75_0 q569 q571 qs4 q112 q572) xC0) <|
  xA0 (ok_aload_n (xdd xB_91 dX2_wrongLine_29) rfl rfl) <|
  xA0 (ok_ldcS (xdd xB_91 dX2_wrongLine_30) rfl rfl) <|
  xAe
theorem xe_91_1 {s0 : State} {A0 : Array Value} {D : va_G} {ta : Nat → ClassId} {l : Launch} : XAll s0 A0 D ta l 91 xk_91_1 :=
  xAK rfl (xC1 (ok_callV (xdd xB_91 dX2_wrongLine_32) rfl xq_1 rfl xp_83_1 q753 q755 qs10 q112 q756) xC0) <|
  xA0 (ok_aload_n (xdd xB_91 dX2_wrongLine_35) rfl rfl) <|
  xAK rfl (xC1 (ok_callV (xdd xB_91 dX2_wrongLine_36) rfl xq_1 rfl xp_92_0 q857 q859 qs19 q112 q860) xC0) <|
  xA0 (ok_astore_n (xdd xB_91 dX2_wrongLine_39) rfl rfl) <|
  xA0 (ok_aload_n (xdd xB_91 dX2_wrongLine_40) rfl rfl) <|
  xA0 (ok_aload_n (xdd xB_91 dX2_wrongLine_41) rfl rfl) <|
  xAB (ok_acmp_eq (xdd xB_91 dX2_wrongLine_42) rfl rfl) <|
  xA0 (ok_aload_n (xdd xB_91 dX2_wrongLine_45) rfl rfl) <|
  xA1 (ok_getI (xdd xB_91 dX2_wrongLine_46) rfl (lk_f q813) (by decide)) <|
  xAB (ok_if_eq (xdd xB_91 dX2_wrongLine_49) rfl rfl) <|
  xA0 (ok_aload_n (xdd xB_91 dX2_wrongLine_52) rfl rfl) <|
  xA0 (ok_iconst (xdd xB_91 dX2_wrongLine_53) rfl rfl (xrg rfl)) <|
  xAK rfl (xC1 (ok_callV (xdd xB_91 dX2_wrongLine_54) rfl xq_1 rfl xp_80_1 q667 q669 qs7 q112 q670) xC0) <|
  xAT ((xdd xB_91 dX2_wrongLine_57)) <|
  xA0 (ok_aload_n (xdd xB_91 dX2_wrongLine_58) rfl rfl) <|
  xAK rfl (xC1 (ok_callV (xdd xB_91 dX2_wrongLine_59) rfl xq_1 rfl xp_75_0 q569 q571 qs4 q112 q572) xC0) <|
  xA0 (ok_aload_n (xdd xB_91 dX2_wrongLine_62) rfl rfl) <|
  xA0 (ok_aload_n (xdd xB_91 dX2_wrongLine_63) rfl rfl) <|
  xAe
theorem xe_91_2 {s0 : State} {A0 : Array Value} {D : va_G} {ta : Nat → ClassId} {l : Launch} : XAll s0 A0 D ta l 91 xk_91_2 :=
  xA1 (ok_getI (xdd xB_91 dX2_wrongLine_64) rfl (lk_s q820 q821) (by decide)) <|
  xA1 (ok_putI (xdd xB_91 dX2_wrongLine_67) rfl (lk_f q811) rfl xfd_125 (Or.inl rfl)) <|
  xA0 (ok_aload_n (xdd xB_91 dX2_wrongLine_70) rfl rfl) <|
  xA0 (ok_iconst (xdd xB_91 dX2_wrongLine_71) rfl rfl (xrg rfl)) <|
  xA1 (ok_putZ (xdd xB_91 dX2_wrongLine_72) rfl (lk_f q813) rfl xfd_127 (Or.inl rfl)) <|
  xAR (ok_vreturn (xdd xB_91 dX2_wrongLine_75) rfl) <|
  xAe
theorem xe_91 {s0 : State} {A0 : Array Value} {D : va_G} {ta : Nat → ClassId} {l : Launch} : XAllC s0 A0 D ta l 91 xk_91 := ⟨xe_91_0, xe_91_1, xe_91_2, trivial⟩
theorem xe_92_0 {s0 : State} {A0 : Array Value} {D : va_G} {ta : Nat → ClassId} {l : Launch} : XAll s0 A0 D ta l 92 xk_92_0 :=
  xA0 (ok_aload_n (xdd xB_92 dX2_houseHere_0) rfl rfl) <|
  xAK rfl (xC1 (ok_callV (xdd xB_92 dX2_houseHere_1) rfl xq_1 rfl xp_89_0 q780 q782 qs16 q112 q783) xC0) <|
  xA0 (ok_aload_n (xdd xB_92 dX2_houseHere_4) rfl rfl) <|
  xA1 (ok_getA (xdd xB_92 dX2_houseHere_5) rfl (lk_f q238) rfl) <|
  xA0 (ok_aload_n (xdd xB_92 dX2_houseHere_8) rfl rfl) <|
  xA1 (ok_getA (xdd xB_92 dX2_houseHere_9) rfl (lk_f q237) rfl) <|
  xAK rfl (xC1 (ok_callV (xdd xB_92 dX2_houseHere_12) rfl xq_10 rfl xp_257_1 q784 q785 q786 q125 q787) xC0) <|
  xA0 (ok_astore_n (xdd xB_92 dX2_houseHere_15) rfl rfl) <|
  xA0 (ok_aload_n (xdd xB_92 dX2_houseHere_16) rfl rfl) <|
  xA1 (ok_inst (xdd xB_92 dX2_houseHere_17) rfl xq_11 q774 xno_House) <|
  xAB (ok_if_ne (xdd xB_92 dX2_houseHere_20) rfl rfl) <|
  xA0 (ok_aload_n (xdd xB_92 dX2_houseHere_23) rfl rfl) <|
  xA0 (ok_iconst (xdd xB_92 dX2_houseHere_24) rfl rfl (xrg rfl)) <|
  xAK rfl (xC1 (ok_callV (xdd xB_92 dX2_houseHere_25) rfl xq_1 rfl xp_80_1 q667 q669 qs7 q112 q670) xC0) <|
  xAT ((xdd xB_92 dX2_houseHere_28)) <|
  xA0 (ok_aload_n (xdd xB_92 dX2_houseHere_29) rfl rfl) <|
  xA1 (ok_cast (xdd xB_92 dX2_houseHere_30) rfl xq_11 q774) <|
  xAe
theorem xe_92_1 {s0 : State} {A0 : Array Value} {D : va_G} {ta : Nat → ClassId} {l : Launch} : XAll s0 A0 D ta l 92 xk_92_1 :=
  xAR (ok_areturn (xdd xB_92 dX2_houseHere_33) rfl (Or.inl ⟨_, rfl⟩)) <|
  xAe
theorem xe_92 {s0 : State} {A0 : Array Value} {D : va_G} {ta : Nat → ClassId} {l : Launch} : XAllC s0 A0 D ta l 92 xk_92 := ⟨xe_92_0, xe_92_1, trivial⟩
theorem xe_93_0 {s0 : State} {A0 : Array Value} {D : va_G} {ta : Nat → ClassId} {l : Launch} : XAll s0 A0 D ta l 93 xk_93_0 :=
  xA0 (ok_aload_n (xdd xB_93 dX2_openLine_0) rfl rfl) <|
  xA0 (ok_iconst (xdd xB_93 dX2_openLine_1) rfl rfl (xrg rfl)) <|
  xAK rfl (xC1 (ok_callV (xdd xB_93 dX2_openLine_2) rfl xq_1 rfl xp_87_1 q770 q772 qs14 q112 q773) xC0) <|
  xA0 (ok_aload_n (xdd xB_93 dX2_openLine_5) rfl rfl) <|
  xAK rfl (xC1 (ok_callV (xdd xB_93 dX2_openLine_6) rfl xq_1 rfl xp_92_0 q857 q859 qs19 q112 q860) xC0) <|
  xA0 (ok_astore_n (xdd xB_93 dX2_openLine_9) rfl rfl) <|
  xA0 (ok_aload_n (xdd xB_93 dX2_openLine_10) rfl rfl) <|
  xA1 (ok_getI (xdd xB_93 dX2_openLine_11) rfl (lk_f q812) (by decide)) <|
  xAB (ok_if_eq (xdd xB_93 dX2_openLine_14) rfl rfl) <|
  xA0 (ok_aload_n (xdd xB_93 dX2_openLine_17) rfl rfl) <|
  xA0 (ok_iconst (xdd xB_93 dX2_openLine_18) rfl rfl (xrg rfl)) <|
  xAK rfl (xC1 (ok_callV (xdd xB_93 dX2_openLine_19) rfl xq_1 rfl xp_80_1 q667 q669 qs7 q112 q670) xC0) <|
  xAT ((xdd xB_93 dX2_openLine_22)) <|
  xA0 (ok_aload_n (xdd xB_93 dX2_openLine_23) rfl rfl) <|
  xAK rfl (xC1 (ok_callV (xdd xB_93 dX2_openLine_24) rfl xq_1 rfl xp_75_0 q569 q571 qs4 q112 q572) xC0) <|
  xA0 (ok_aload_n (xdd xB_93 dX2_openLine_27) rfl rfl) <|
  xA0 (ok_aload_n (xdd xB_93 dX2_openLine_28) rfl rfl) <|
  xA0 (ok_ldcS (xdd xB_93 dX2_openLine_29) rfl rfl) <|
  xA0 (ok_iconst (xdd xB_93 dX2_openLine_31) rfl rfl (xrg rfl)) <|
  xAe
theorem xe_93_1 {s0 : State} {A0 : Array Value} {D : va_G} {ta : Nat → ClassId} {l : Launch} : XAll s0 A0 D ta l 93 xk_93_1 :=
  xA0 (ok_bipush (xdd xB_93 dX2_openLine_32) rfl rfl (xrg rfl)) <|
  xAK rfl (xC1 (ok_callV (xdd xB_93 dX2_openLine_34) rfl xq_1 rfl xp_82_3 q749 q751 qs9 q112 q752) xC0) <|
  xA1 (ok_putI (xdd xB_93 dX2_openLine_37) rfl (lk_f q806) rfl xfd_123 (Or.inl rfl)) <|
  xA0 (ok_aload_n (xdd xB_93 dX2_openLine_40) rfl rfl) <|
  xA0 (ok_aload_n (xdd xB_93 dX2_openLine_41) rfl rfl) <|
  xA0 (ok_ldcS (xdd xB_93 dX2_openLine_42) rfl rfl) <|
  xA0 (ok_aload_n (xdd xB_93 dX2_openLine_44) rfl rfl) <|
  xA1 (ok_getI (xdd xB_93 dX2_openLine_45) rfl (lk_f q806) (by decide)) <|
  xA0 (ok_bipush (xdd xB_93 dX2_openLine_48) rfl rfl (xrg rfl)) <|
  xAK rfl (xC1 (ok_callV (xdd xB_93 dX2_openLine_50) rfl xq_1 rfl xp_82_3 q749 q751 qs9 q112 q752) xC0) <|
  xA1 (ok_putI (xdd xB_93 dX2_openLine_53) rfl (lk_f q808) rfl xfd_124 (Or.inl rfl)) <|
  xA0 (ok_aload_n (xdd xB_93 dX2_openLine_56) rfl rfl) <|
  xA0 (ok_iconst (xdd xB_93 dX2_openLine_57) rfl rfl (xrg rfl)) <|
  xA1 (ok_putZ (xdd xB_93 dX2_openLine_58) rfl (lk_f q812) rfl xfd_126 (Or.inl rfl)) <|
  xA0 (ok_aload_n (xdd xB_93 dX2_openLine_61) rfl rfl) <|
  xA1 (ok_getA (xdd xB_93 dX2_openLine_62) rfl (lk_f q238) rfl) <|
  xAe
theorem xe_93_2 {s0 : State} {A0 : Array Value} {D : va_G} {ta : Nat → ClassId} {l : Launch} : XAll s0 A0 D ta l 93 xk_93_2 :=
  xA0 (ok_dup (xdd xB_93 dX2_openLine_65) rfl) <|
  xA1 (ok_getI (xdd xB_93 dX2_openLine_66) rfl (lk_f q530) (by decide)) <|
  xA0 (ok_iconst (xdd xB_93 dX2_openLine_69) rfl rfl (xrg rfl)) <|
  xA1 (ok_iadd (xdd xB_93 dX2_openLine_70) rfl) <|
  xA1 (ok_putI (xdd xB_93 dX2_openLine_71) rfl (lk_f q530) rfl xfd_112 (Or.inl rfl)) <|
  xAR (ok_vreturn (xdd xB_93 dX2_openLine_74) rfl) <|
  xAe
theorem xe_93 {s0 : State} {A0 : Array Value} {D : va_G} {ta : Nat → ClassId} {l : Launch} : XAllC s0 A0 D ta l 93 xk_93 := ⟨xe_93_0, xe_93_1, xe_93_2, trivial⟩
theorem xe_94_0 {s0 : State} {A0 : Array Value} {D : va_G} {ta : Nat → ClassId} {l : Launch} : XAll s0 A0 D ta l 94 xk_94_0 :=
  xA0 (ok_aload_n (xdd xB_94 dX2_streetLine_0) rfl rfl) <|
  xA0 (ok_aload_n (xdd xB_94 dX2_streetLine_1) rfl rfl) <|
  xA1 (ok_getA (xdd xB_94 dX2_streetLine_2) rfl (lk_f q238) rfl) <|
  xA1 (ok_getI (xdd xB_94 dX2_streetLine_5) rfl (lk_f q532) (by decide)) <|
  xA0 (ok_bipush (xdd xB_94 dX2_streetLine_8) rfl rfl (xrg rfl)) <|
  xAB (ok_icmp_ge (xdd xB_94 dX2_streetLine_10) rfl rfl) <|
  xA0 (ok_iconst (xdd xB_94 dX2_streetLine_13) rfl rfl (xrg rfl)) <|
  xA0 (ok_goto (xdd xB_94 dX2_streetLine_14) rfl) <|
  xA0 (ok_iconst (xdd xB_94 dX2_streetLine_17) rfl rfl (xrg rfl)) <|
  xAK rfl (xC1 (ok_callV (xdd xB_94 dX2_streetLine_18) rfl xq_1 rfl xp_87_1 q770 q772 qs14 q112 q773) xC0) <|
  xA0 (ok_aload_n (xdd xB_94 dX2_streetLine_21) rfl rfl) <|
  xAK rfl (xC1 (ok_callV (xdd xB_94 dX2_streetLine_22) rfl xq_1 rfl xp_95_0 q872 q874 qs22 q112 q875) xC0) <|
  xA0 (ok_astore_n (xdd xB_94 dX2_streetLine_25) rfl rfl) <|
  xA0 (ok_aload_n (xdd xB_94 dX2_streetLine_26) rfl rfl) <|
  xAK rfl (xC1 (ok_callV (xdd xB_94 dX2_streetLine_27) rfl xq_1 rfl xp_92_0 q857 q859 qs19 q112 q860) xC0) <|
  xA0 (ok_astore_n (xdd xB_94 dX2_streetLine_30) rfl rfl) <|
  xA0 (ok_aload_n (xdd xB_94 dX2_streetLine_31) rfl rfl) <|
  xAe
theorem xe_94_1 {s0 : State} {A0 : Array Value} {D : va_G} {ta : Nat → ClassId} {l : Launch} : XAll s0 A0 D ta l 94 xk_94_1 :=
  xA0 (ok_aload_n (xdd xB_94 dX2_streetLine_32) rfl rfl) <|
  xAB (ok_acmp_eq (xdd xB_94 dX2_streetLine_33) rfl rfl) <|
  xA0 (ok_aload_n (xdd xB_94 dX2_streetLine_36) rfl rfl) <|
  xA1 (ok_getA (xdd xB_94 dX2_streetLine_37) rfl (lk_f q238) rfl) <|
  xA0 (ok_aload_n (xdd xB_94 dX2_streetLine_40) rfl rfl) <|
  xA1 (ok_getI (xdd xB_94 dX2_streetLine_41) rfl (lk_s q820 q821) (by decide)) <|
  xA0 (ok_aload_n (xdd xB_94 dX2_streetLine_44) rfl rfl) <|
  xA1 (ok_getI (xdd xB_94 dX2_streetLine_45) rfl (lk_s q820 q821) (by decide)) <|
  xAK rfl (xC1 (ok_callV (xdd xB_94 dX2_streetLine_48) rfl xq_10 rfl xp_258_2 q876 q877 q878 q125 q879) xC0) <|
  xAB (ok_if_le (xdd xB_94 dX2_streetLine_51) rfl rfl) <|
  xA0 (ok_aload_n (xdd xB_94 dX2_streetLine_54) rfl rfl) <|
  xA0 (ok_iconst (xdd xB_94 dX2_streetLine_55) rfl rfl (xrg rfl)) <|
  xAK rfl (xC1 (ok_callV (xdd xB_94 dX2_streetLine_56) rfl xq_1 rfl xp_80_1 q667 q669 qs7 q112 q670) xC0) <|
  xAT ((xdd xB_94 dX2_streetLine_59)) <|
  xA0 (ok_aload_n (xdd xB_94 dX2_streetLine_60) rfl rfl) <|
  xAK rfl (xC1 (ok_callV (xdd xB_94 dX2_streetLine_61) rfl xq_1 rfl xp_75_0 q569 q571 qs4 q112 q572) xC0) <|
  xAe
theorem xe_94_2 {s0 : State} {A0 : Array Value} {D : va_G} {ta : Nat → ClassId} {l : Launch} : XAll s0 A0 D ta l 94 xk_94_2 :=
  xA0 (ok_aload_n (xdd xB_94 dX2_streetLine_64) rfl rfl) <|
  xA0 (ok_ldcS (xdd xB_94 dX2_streetLine_65) rfl rfl) <|
  xA0 (ok_iconst (xdd xB_94 dX2_streetLine_67) rfl rfl (xrg rfl)) <|
  xA0 (ok_bipush (xdd xB_94 dX2_streetLine_68) rfl rfl (xrg rfl)) <|
  xAK rfl (xC1 (ok_callV (xdd xB_94 dX2_streetLine_70) rfl xq_1 rfl xp_82_3 q749 q751 qs9 q112 q752) xC0) <|
  xA0 (ok_istore_n (xdd xB_94 dX2_streetLine_73) rfl rfl) <|
  xA0 (ok_aload_n (xdd xB_94 dX2_streetLine_74) rfl rfl) <|
  xA1 (ok_getA (xdd xB_94 dX2_streetLine_75) rfl (lk_f q238) rfl) <|
  xA1 (ok_getA (xdd xB_94 dX2_streetLine_78) rfl (lk_f q516) rfl) <|
  xA0 (ok_bipush (xdd xB_94 dX2_streetLine_81) rfl rfl (xrg rfl)) <|
  xA0 (ok_aload_n (xdd xB_94 dX2_streetLine_83) rfl rfl) <|
  xA1 (ok_getI (xdd xB_94 dX2_streetLine_84) rfl (lk_s q820 q821) (by decide)) <|
  xA1 (ok_imul (xdd xB_94 dX2_streetLine_87) rfl) <|
  xA0 (ok_aload_n (xdd xB_94 dX2_streetLine_88) rfl rfl) <|
  xA1 (ok_getI (xdd xB_94 dX2_streetLine_89) rfl (lk_s q820 q821) (by decide)) <|
  xA1 (ok_iadd (xdd xB_94 dX2_streetLine_92) rfl) <|
  xA0 (ok_iload_n (xdd xB_94 dX2_streetLine_93) rfl rfl) <|
  xA1 (ok_iastore (xdd xB_94 dX2_streetLine_94) rfl) <|
  xA0 (ok_aload_n (xdd xB_94 dX2_streetLine_95) rfl rfl) <|
  xAe
theorem xe_94_3 {s0 : State} {A0 : Array Value} {D : va_G} {ta : Nat → ClassId} {l : Launch} : XAll s0 A0 D ta l 94 xk_94_3 :=
  xA1 (ok_getA (xdd xB_94 dX2_streetLine_96) rfl (lk_f q238) rfl) <|
  xA1 (ok_getA (xdd xB_94 dX2_streetLine_99) rfl (lk_f q516) rfl) <|
  xA0 (ok_bipush (xdd xB_94 dX2_streetLine_102) rfl rfl (xrg rfl)) <|
  xA0 (ok_aload_n (xdd xB_94 dX2_streetLine_104) rfl rfl) <|
  xA1 (ok_getI (xdd xB_94 dX2_streetLine_105) rfl (lk_s q820 q821) (by decide)) <|
  xA1 (ok_imul (xdd xB_94 dX2_streetLine_108) rfl) <|
  xA0 (ok_aload_n (xdd xB_94 dX2_streetLine_109) rfl rfl) <|
  xA1 (ok_getI (xdd xB_94 dX2_streetLine_110) rfl (lk_s q820 q821) (by decide)) <|
  xA1 (ok_iadd (xdd xB_94 dX2_streetLine_113) rfl) <|
  xA0 (ok_iload_n (xdd xB_94 dX2_streetLine_114) rfl rfl) <|
  xA1 (ok_iastore (xdd xB_94 dX2_streetLine_115) rfl) <|
  xA0 (ok_aload_n (xdd xB_94 dX2_streetLine_116) rfl rfl) <|
  xA1 (ok_getA (xdd xB_94 dX2_streetLine_117) rfl (lk_f q238) rfl) <|
  xA0 (ok_dup (xdd xB_94 dX2_streetLine_120) rfl) <|
  xA1 (ok_getI (xdd xB_94 dX2_streetLine_121) rfl (lk_f q532) (by decide)) <|
  xA0 (ok_iconst (xdd xB_94 dX2_streetLine_124) rfl rfl (xrg rfl)) <|
  xA1 (ok_iadd (xdd xB_94 dX2_streetLine_125) rfl) <|
  xA1 (ok_putI (xdd xB_94 dX2_streetLine_126) rfl (lk_f q532) rfl xfd_113 (Or.inl rfl)) <|
  xAe
theorem xe_94_4 {s0 : State} {A0 : Array Value} {D : va_G} {ta : Nat → ClassId} {l : Launch} : XAll s0 A0 D ta l 94 xk_94_4 :=
  xAR (ok_vreturn (xdd xB_94 dX2_streetLine_129) rfl) <|
  xAe
theorem xe_94 {s0 : State} {A0 : Array Value} {D : va_G} {ta : Nat → ClassId} {l : Launch} : XAllC s0 A0 D ta l 94 xk_94 := ⟨xe_94_0, xe_94_1, xe_94_2, xe_94_3, xe_94_4, trivial⟩
theorem xe_95_0 {s0 : State} {A0 : Array Value} {D : va_G} {ta : Nat → ClassId} {l : Launch} : XAll s0 A0 D ta l 95 xk_95_0 :=
  xA0 (ok_aload_n (xdd xB_95 dX2_house_0) rfl rfl) <|
  xAK rfl (xC1 (ok_callV (xdd xB_95 dX2_house_1) rfl xq_1 rfl xp_92_0 q857 q859 qs19 q112 q860) xC0) <|
  xA0 (ok_astore_n (xdd xB_95 dX2_house_4) rfl rfl) <|
  xA0 (ok_aload_n (xdd xB_95 dX2_house_5) rfl rfl) <|
  xAK rfl (xC1 (ok_callV (xdd xB_95 dX2_house_6) rfl xq_1 rfl xp_75_0 q569 q571 qs4 q112 q572) xC0) <|
  xA0 (ok_aload_n (xdd xB_95 dX2_house_9) rfl rfl) <|
  xAR (ok_areturn (xdd xB_95 dX2_house_10) rfl (Or.inl ⟨_, rfl⟩)) <|
  xAe
theorem xe_95 {s0 : State} {A0 : Array Value} {D : va_G} {ta : Nat → ClassId} {l : Launch} : XAllC s0 A0 D ta l 95 xk_95 := ⟨xe_95_0, trivial⟩
theorem xe_96_0 {s0 : State} {A0 : Array Value} {D : va_G} {ta : Nat → ClassId} {l : Launch} : XAll s0 A0 D ta l 96 xk_96_0 :=
  xA0 (ok_aload_n (xdd xB_96 dX2_personLine_0) rfl rfl) <|
  xA0 (ok_aload_n (xdd xB_96 dX2_personLine_1) rfl rfl) <|
  xA1 (ok_getA (xdd xB_96 dX2_personLine_2) rfl (lk_f q238) rfl) <|
  xA1 (ok_getI (xdd xB_96 dX2_personLine_5) rfl (lk_f q537) (by decide)) <|
  xA0 (ok_iconst (xdd xB_96 dX2_personLine_8) rfl rfl (xrg rfl)) <|
  xAB (ok_icmp_ge (xdd xB_96 dX2_personLine_9) rfl rfl) <|
  xA0 (ok_iconst (xdd xB_96 dX2_personLine_12) rfl rfl (xrg rfl)) <|
  xA0 (ok_goto (xdd xB_96 dX2_personLine_13) rfl) <|
  xA0 (ok_iconst (xdd xB_96 dX2_personLine_16) rfl rfl (xrg rfl)) <|
  xAK rfl (xC1 (ok_callV (xdd xB_96 dX2_personLine_17) rfl xq_1 rfl xp_87_1 q770 q772 qs14 q112 q773) xC0) <|
  xA0 (ok_newo (xdd xB_96 dX2_personLine_20) rfl xq_12 q885 q886 q133) <|
  xA0 (ok_dup (xdd xB_96 dX2_personLine_23) rfl) <|
  xA0 (ok_aload_n (xdd xB_96 dX2_personLine_24) rfl rfl) <|
  xAK rfl (xC1 (ok_callV (xdd xB_96 dX2_personLine_25) rfl xq_1 rfl xp_88_0 q776 q778 qs15 q112 q779) xC0) <|
  xA0 (ok_aload_n (xdd xB_96 dX2_personLine_28) rfl rfl) <|
  xA1 (ok_getA (xdd xB_96 dX2_personLine_29) rfl (lk_f q238) rfl) <|
  xAe
theorem xe_96_1 {s0 : State} {A0 : Array Value} {D : va_G} {ta : Nat → ClassId} {l : Launch} : XAll s0 A0 D ta l 96 xk_96_1 :=
  xA1 (ok_getI (xdd xB_96 dX2_personLine_32) rfl (lk_f q537) (by decide)) <|
  xAK rfl (xC1 (ok_callI (xdd xB_96 dX2_personLine_35) rfl xq_12 rfl rfl xp_285_2 q887 q888 q133 q889) xC0) <|
  xA0 (ok_astore_n (xdd xB_96 dX2_personLine_38) rfl rfl) <|
  xA0 (ok_aload_n (xdd xB_96 dX2_personLine_39) rfl rfl) <|
  xA0 (ok_ldcS (xdd xB_96 dX2_personLine_40) rfl rfl) <|
  xAK rfl (xC1 (ok_callV (xdd xB_96 dX2_personLine_42) rfl xq_1 rfl xp_83_1 q753 q755 qs10 q112 q756) xC0) <|
  xA0 (ok_aload_n (xdd xB_96 dX2_personLine_45) rfl rfl) <|
  xA0 (ok_aload_n (xdd xB_96 dX2_personLine_46) rfl rfl) <|
  xAK rfl (xC1 (ok_callV (xdd xB_96 dX2_personLine_47) rfl xq_1 rfl xp_95_0 q872 q874 qs22 q112 q875) xC0) <|
  xA1 (ok_getI (xdd xB_96 dX2_personLine_50) rfl (lk_s q820 q821) (by decide)) <|
  xA1 (ok_putI (xdd xB_96 dX2_personLine_53) rfl (lk_f q892) rfl xfd_128 (Or.inl rfl)) <|
  xA0 (ok_aload_n (xdd xB_96 dX2_personLine_56) rfl rfl) <|
  xA0 (ok_ldcwS (xdd xB_96 dX2_personLine_57) rfl rfl) <|
  xAK rfl (xC1 (ok_callV (xdd xB_96 dX2_personLine_60) rfl xq_1 rfl xp_83_1 q753 q755 qs10 q112 q756) xC0) <|
  xA0 (ok_aload_n (xdd xB_96 dX2_personLine_63) rfl rfl) <|
  xAe
theorem xe_96_2 {s0 : State} {A0 : Array Value} {D : va_G} {ta : Nat → ClassId} {l : Launch} : XAll s0 A0 D ta l 96 xk_96_2 :=
  xA0 (ok_aload_n (xdd xB_96 dX2_personLine_64) rfl rfl) <|
  xAK rfl (xC1 (ok_callV (xdd xB_96 dX2_personLine_65) rfl xq_1 rfl xp_95_0 q872 q874 qs22 q112 q875) xC0) <|
  xA1 (ok_getI (xdd xB_96 dX2_personLine_68) rfl (lk_s q820 q821) (by decide)) <|
  xA1 (ok_putI (xdd xB_96 dX2_personLine_71) rfl (lk_f q894) rfl xfd_129 (Or.inl rfl)) <|
  xA0 (ok_aload_n (xdd xB_96 dX2_personLine_74) rfl rfl) <|
  xA1 (ok_getA (xdd xB_96 dX2_personLine_75) rfl (lk_f q238) rfl) <|
  xA1 (ok_getA (xdd xB_96 dX2_personLine_78) rfl (lk_f q511) rfl) <|
  xA0 (ok_aload_n (xdd xB_96 dX2_personLine_81) rfl rfl) <|
  xA1 (ok_getA (xdd xB_96 dX2_personLine_82) rfl (lk_f q238) rfl) <|
  xA1 (ok_getI (xdd xB_96 dX2_personLine_85) rfl (lk_f q537) (by decide)) <|
  xA0 (ok_aload_n (xdd xB_96 dX2_personLine_88) rfl rfl) <|
  xA1 (ok_aastore (xdd xB_96 dX2_personLine_89) rfl) <|
  xA0 (ok_aload_n (xdd xB_96 dX2_personLine_90) rfl rfl) <|
  xA1 (ok_getA (xdd xB_96 dX2_personLine_91) rfl (lk_f q238) rfl) <|
  xA0 (ok_dup (xdd xB_96 dX2_personLine_94) rfl) <|
  xA1 (ok_getI (xdd xB_96 dX2_personLine_95) rfl (lk_f q537) (by decide)) <|
  xAe
theorem xe_96_3 {s0 : State} {A0 : Array Value} {D : va_G} {ta : Nat → ClassId} {l : Launch} : XAll s0 A0 D ta l 96 xk_96_3 :=
  xA0 (ok_iconst (xdd xB_96 dX2_personLine_98) rfl rfl (xrg rfl)) <|
  xA1 (ok_iadd (xdd xB_96 dX2_personLine_99) rfl) <|
  xA1 (ok_putI (xdd xB_96 dX2_personLine_100) rfl (lk_f q537) rfl xfd_114 (Or.inl rfl)) <|
  xAR (ok_vreturn (xdd xB_96 dX2_personLine_103) rfl) <|
  xAe
theorem xe_96 {s0 : State} {A0 : Array Value} {D : va_G} {ta : Nat → ClassId} {l : Launch} : XAllC s0 A0 D ta l 96 xk_96 := ⟨xe_96_0, xe_96_1, xe_96_2, xe_96_3, trivial⟩
theorem xe_97_0 {s0 : State} {A0 : Array Value} {D : va_G} {ta : Nat → ClassId} {l : Launch} : XAll s0 A0 D ta l 97 xk_97_0 :=
  xA0 (ok_aload_n (xdd xB_97 dX2_signLine_0) rfl rfl) <|
  xA0 (ok_aload_n (xdd xB_97 dX2_signLine_1) rfl rfl) <|
  xA1 (ok_getA (xdd xB_97 dX2_signLine_2) rfl (lk_f q238) rfl) <|
  xA1 (ok_getI (xdd xB_97 dX2_signLine_5) rfl (lk_f q539) (by decide)) <|
  xA0 (ok_bipush (xdd xB_97 dX2_signLine_8) rfl rfl (xrg rfl)) <|
  xAB (ok_icmp_ge (xdd xB_97 dX2_signLine_10) rfl rfl) <|
  xA0 (ok_iconst (xdd xB_97 dX2_signLine_13) rfl rfl (xrg rfl)) <|
  xA0 (ok_goto (xdd xB_97 dX2_signLine_14) rfl) <|
  xA0 (ok_iconst (xdd xB_97 dX2_signLine_17) rfl rfl (xrg rfl)) <|
  xAK rfl (xC1 (ok_callV (xdd xB_97 dX2_signLine_18) rfl xq_1 rfl xp_87_1 q770 q772 qs14 q112 q773) xC0) <|
  xA0 (ok_aload_n (xdd xB_97 dX2_signLine_21) rfl rfl) <|
  xAK rfl (xC1 (ok_callV (xdd xB_97 dX2_signLine_22) rfl xq_1 rfl xp_95_0 q872 q874 qs22 q112 q875) xC0) <|
  xA1 (ok_getI (xdd xB_97 dX2_signLine_25) rfl (lk_s q820 q821) (by decide)) <|
  xA0 (ok_istore_n (xdd xB_97 dX2_signLine_28) rfl rfl) <|
  xA0 (ok_aload_n (xdd xB_97 dX2_signLine_29) rfl rfl) <|
  xA0 (ok_newo (xdd xB_97 dX2_signLine_30) rfl xq_13 q908 q909 q135) <|
  xAe
theorem xe_97_1 {s0 : State} {A0 : Array Value} {D : va_G} {ta : Nat → ClassId} {l : Launch} : XAll s0 A0 D ta l 97 xk_97_1 :=
  xA0 (ok_dup (xdd xB_97 dX2_signLine_33) rfl) <|
  xA0 (ok_iload_n (xdd xB_97 dX2_signLine_34) rfl rfl) <|
  xA0 (ok_aload_n (xdd xB_97 dX2_signLine_35) rfl rfl) <|
  xAK rfl (xC1 (ok_callV (xdd xB_97 dX2_signLine_36) rfl xq_1 rfl xp_90_0 q849 q851 qs17 q112 q852) xC0) <|
  xAK rfl (xC1 (ok_callI (xdd xB_97 dX2_signLine_39) rfl xq_13 rfl rfl xp_287_2 q910 q911 q135 q912) xC0) <|
  xAK rfl (xC1 (ok_callV (xdd xB_97 dX2_signLine_42) rfl xq_1 rfl xp_98_1 q926 q928 qs25 q112 q929) xC0) <|
  xA0 (ok_aload_n (xdd xB_97 dX2_signLine_45) rfl rfl) <|
  xA1 (ok_getA (xdd xB_97 dX2_signLine_46) rfl (lk_f q238) rfl) <|
  xA0 (ok_dup (xdd xB_97 dX2_signLine_49) rfl) <|
  xA1 (ok_getI (xdd xB_97 dX2_signLine_50) rfl (lk_f q539) (by decide)) <|
  xA0 (ok_iconst (xdd xB_97 dX2_signLine_53) rfl rfl (xrg rfl)) <|
  xA1 (ok_iadd (xdd xB_97 dX2_signLine_54) rfl) <|
  xA1 (ok_putI (xdd xB_97 dX2_signLine_55) rfl (lk_f q539) rfl xfd_115 (Or.inl rfl)) <|
  xAR (ok_vreturn (xdd xB_97 dX2_signLine_58) rfl) <|
  xAe
theorem xe_97 {s0 : State} {A0 : Array Value} {D : va_G} {ta : Nat → ClassId} {l : Launch} : XAllC s0 A0 D ta l 97 xk_97 := ⟨xe_97_0, xe_97_1, trivial⟩
theorem xe_98_0 {s0 : State} {A0 : Array Value} {D : va_G} {ta : Nat → ClassId} {l : Launch} : XAll s0 A0 D ta l 98 xk_98_0 :=
  xA0 (ok_aload_n (xdd xB_98 dX2_note_0) rfl rfl) <|
  xA1 (ok_getA (xdd xB_98 dX2_note_1) rfl (lk_f q238) rfl) <|
  xA1 (ok_getA (xdd xB_98 dX2_note_4) rfl (lk_f q513) rfl) <|
  xA0 (ok_aload_n (xdd xB_98 dX2_note_7) rfl rfl) <|
  xA1 (ok_getA (xdd xB_98 dX2_note_8) rfl (lk_f q238) rfl) <|
  xAK rfl (xC1 (ok_callV (xdd xB_98 dX2_note_11) rfl xq_10 rfl xp_259_0 q930 q931 q932 q125 q933) xC0) <|
  xA0 (ok_aload_n (xdd xB_98 dX2_note_14) rfl rfl) <|
  xA1 (ok_aastore (xdd xB_98 dX2_note_15) rfl) <|
  xAR (ok_vreturn (xdd xB_98 dX2_note_16) rfl) <|
  xAe
theorem xe_98 {s0 : State} {A0 : Array Value} {D : va_G} {ta : Nat → ClassId} {l : Launch} : XAllC s0 A0 D ta l 98 xk_98 := ⟨xe_98_0, trivial⟩
theorem xe_99_0 {s0 : State} {A0 : Array Value} {D : va_G} {ta : Nat → ClassId} {l : Launch} : XAll s0 A0 D ta l 99 xk_99_0 :=
  xA0 (ok_aload_n (xdd xB_99 dX2_noiseLine_0) rfl rfl) <|
  xA0 (ok_aload_n (xdd xB_99 dX2_noiseLine_1) rfl rfl) <|
  xA1 (ok_getA (xdd xB_99 dX2_noiseLine_2) rfl (lk_f q238) rfl) <|
  xA1 (ok_getI (xdd xB_99 dX2_noiseLine_5) rfl (lk_f q542) (by decide)) <|
  xA0 (ok_iconst (xdd xB_99 dX2_noiseLine_8) rfl rfl (xrg rfl)) <|
  xAB (ok_icmp_ge (xdd xB_99 dX2_noiseLine_9) rfl rfl) <|
  xA0 (ok_iconst (xdd xB_99 dX2_noiseLine_12) rfl rfl (xrg rfl)) <|
  xA0 (ok_goto (xdd xB_99 dX2_noiseLine_13) rfl) <|
  xA0 (ok_iconst (xdd xB_99 dX2_noiseLine_16) rfl rfl (xrg rfl)) <|
  xAK rfl (xC1 (ok_callV (xdd xB_99 dX2_noiseLine_17) rfl xq_1 rfl xp_87_1 q770 q772 qs14 q112 q773) xC0) <|
  xA0 (ok_aload_n (xdd xB_99 dX2_noiseLine_20) rfl rfl) <|
  xAK rfl (xC1 (ok_callV (xdd xB_99 dX2_noiseLine_21) rfl xq_1 rfl xp_95_0 q872 q874 qs22 q112 q875) xC0) <|
  xA1 (ok_getI (xdd xB_99 dX2_noiseLine_24) rfl (lk_s q820 q821) (by decide)) <|
  xA0 (ok_istore_n (xdd xB_99 dX2_noiseLine_27) rfl rfl) <|
  xA0 (ok_aload_n (xdd xB_99 dX2_noiseLine_28) rfl rfl) <|
  xA0 (ok_newo (xdd xB_99 dX2_noiseLine_29) rfl xq_14 q938 q939 q136) <|
  xAe
theorem xe_99_1 {s0 : State} {A0 : Array Value} {D : va_G} {ta : Nat → ClassId} {l : Launch} : XAll s0 A0 D ta l 99 xk_99_1 :=
  xA0 (ok_dup (xdd xB_99 dX2_noiseLine_32) rfl) <|
  xA0 (ok_iload_n (xdd xB_99 dX2_noiseLine_33) rfl rfl) <|
  xA0 (ok_aload_n (xdd xB_99 dX2_noiseLine_34) rfl rfl) <|
  xA0 (ok_iconst (xdd xB_99 dX2_noiseLine_35) rfl rfl (xrg rfl)) <|
  xA0 (ok_bipush (xdd xB_99 dX2_noiseLine_36) rfl rfl (xrg rfl)) <|
  xAK rfl (xC1 (ok_callV (xdd xB_99 dX2_noiseLine_38) rfl xq_1 rfl xp_85_2 q761 q763 qs12 q112 q764) xC0) <|
  xAK rfl (xC1 (ok_callI (xdd xB_99 dX2_noiseLine_41) rfl xq_14 rfl rfl xp_289_2 q940 q941 q136 q942) xC0) <|
  xAK rfl (xC1 (ok_callV (xdd xB_99 dX2_noiseLine_44) rfl xq_1 rfl xp_98_1 q926 q928 qs25 q112 q929) xC0) <|
  xA0 (ok_aload_n (xdd xB_99 dX2_noiseLine_47) rfl rfl) <|
  xA1 (ok_getA (xdd xB_99 dX2_noiseLine_48) rfl (lk_f q238) rfl) <|
  xA0 (ok_dup (xdd xB_99 dX2_noiseLine_51) rfl) <|
  xA1 (ok_getI (xdd xB_99 dX2_noiseLine_52) rfl (lk_f q542) (by decide)) <|
  xA0 (ok_iconst (xdd xB_99 dX2_noiseLine_55) rfl rfl (xrg rfl)) <|
  xA1 (ok_iadd (xdd xB_99 dX2_noiseLine_56) rfl) <|
  xA1 (ok_putI (xdd xB_99 dX2_noiseLine_57) rfl (lk_f q542) rfl xfd_116 (Or.inl rfl)) <|
  xAR (ok_vreturn (xdd xB_99 dX2_noiseLine_60) rfl) <|
  xAe
theorem xe_99 {s0 : State} {A0 : Array Value} {D : va_G} {ta : Nat → ClassId} {l : Launch} : XAllC s0 A0 D ta l 99 xk_99 := ⟨xe_99_0, xe_99_1, trivial⟩
