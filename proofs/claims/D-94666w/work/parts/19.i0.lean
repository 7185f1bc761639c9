/-! SOUNDNESS, 11: every instruction (printed by tools/sound.py) -/
set_option maxRecDepth 100000
abbrev S1 (pc : Nat) (x : XI) : Prop := SA "WeekFoot" cX0_image 2 "image" (some .int) pc x
theorem s_1_0 : S1 0 (ia_il 1 1) := sa_n (snd_iload_n dX0_image_0 rfl rfl) on_il
theorem s_1_1 : S1 1 (ia_k 2 0) := sa_n (snd_iconst dX0_image_1 rfl (okI_c rfl) rfl) on_k
theorem s_1_2 : S1 2 (ia_k 3 1) := sa_n (snd_iconst dX0_image_2 rfl (okI_c rfl) rfl) on_k
theorem s_1_3 : S1 3 (ia_stat 6 3 2 3) := sk_S me_2 q138 dX0_image_3 rfl
theorem s_1_6 : S1 6 (ia_if k0n 9 15) := sa_b (sndB_if_ne dX0_image_6 rfl rfl) on_if
theorem s_1_9 : S1 9 (ia_al 10 0) := sa_n (snd_aload_n dX0_image_9 rfl rfl) on_al
theorem s_1_10 : S1 10 (ia_k 11 (-1)) := sa_n (snd_iconst dX0_image_10 rfl (okI_c rfl) rfl) on_k
theorem s_1_11 : S1 11 (ia_call 14 2 1 3 2) := sk_V me_3 q141 dX0_image_11 rfl
theorem s_1_14 : S1 14 (ia_retI) := sa_t (st_retI dX0_image_14 rfl) on_retI
theorem s_1_15 : S1 15 (ia_al 16 0) := sa_n (snd_aload_n dX0_image_15 rfl rfl) on_al
theorem s_1_16 : S1 16 (ia_gfR 19 1 5) := sa_n (snd_gfR ci_1 (k := 5) (lt_c rfl) dX0_image_16 (Or.inl q884) (Or.inl rfl) (fun _ _ _ _ => rfl) rfl rfl) on_gfR
theorem s_1_19 : S1 19 (ia_il 20 1) := sa_n (snd_iload_n dX0_image_19 rfl rfl) on_il
theorem s_1_20 : S1 20 (ia_ldR 21 105) := sa_n (snd_aaload (by decide) dX0_image_20 rfl) on_ldR
theorem s_1_21 : S1 21 (ia_nnl 24 37) := sa_b (sndB_nnl dX0_image_21 rfl rfl) on_nnl
theorem s_1_24 : S1 24 (ia_al 25 0) := sa_n (snd_aload_n dX0_image_24 rfl rfl) on_al
theorem s_1_25 : S1 25 (ia_gfR 28 1 5) := sa_n (snd_gfR ci_1 (k := 5) (lt_c rfl) dX0_image_25 (Or.inl q884) (Or.inl rfl) (fun _ _ _ _ => rfl) rfl rfl) on_gfR
theorem s_1_28 : S1 28 (ia_il 29 1) := sa_n (snd_iload_n dX0_image_28 rfl rfl) on_il
theorem s_1_29 : S1 29 (ia_new 32 3 7) := sa_n (snd_new ci_3 okt_3 dX0_image_29 q146 q147 q106 rfl) on_new
theorem s_1_32 : S1 32 (ia_dup 33) := sa_n (snd_dup dX0_image_32 rfl) on_dup
theorem s_1_33 : S1 33 (ia_call 36 1 3 81 2) := sk_I me_81 (by decide) rfl q148 dX0_image_33 rfl
theorem s_1_36 : S1 36 (ia_stR 37 105 [3]) := sa_n (snd_aastore (by decide) es_105 (by decide) dX0_image_36 rfl) on_stR
theorem s_1_37 : S1 37 (ia_al 38 0) := sa_n (snd_aload_n dX0_image_37 rfl rfl) on_al
theorem s_1_38 : S1 38 (ia_gfR 41 1 5) := sa_n (snd_gfR ci_1 (k := 5) (lt_c rfl) dX0_image_38 (Or.inl q884) (Or.inl rfl) (fun _ _ _ _ => rfl) rfl rfl) on_gfR
theorem s_1_41 : S1 41 (ia_il 42 1) := sa_n (snd_iload_n dX0_image_41 rfl rfl) on_il
theorem s_1_42 : S1 42 (ia_ldR 43 105) := sa_n (snd_aaload (by decide) dX0_image_42 rfl) on_ldR
theorem s_1_43 : S1 43 (ia_al 44 0) := sa_n (snd_aload_n dX0_image_43 rfl rfl) on_al
theorem s_1_44 : S1 44 (ia_gfR 47 1 4) := sa_n (snd_gfR ci_1 (k := 4) (lt_c rfl) dX0_image_44 (Or.inl q883) (Or.inl rfl) (fun _ _ _ _ => rfl) rfl rfl) on_gfR
theorem s_1_47 : S1 47 (ia_call 50 2 3 82 2) := sk_V me_82 q227 dX0_image_47 rfl
theorem s_1_50 : S1 50 (ia_al 51 0) := sa_n (snd_aload_n dX0_image_50 rfl rfl) on_al
theorem s_1_51 : S1 51 (ia_k 52 0) := sa_n (snd_iconst dX0_image_51 rfl (okI_c rfl) rfl) on_k
theorem s_1_52 : S1 52 (ia_call 55 2 1 4 2) := sk_V me_4 q301 dX0_image_52 rfl
theorem s_1_55 : S1 55 (ia_retI) := sa_t (st_retI dX0_image_55 rfl) on_retI
theorem sa_1 (pc : Nat) : S1 pc (cd_1 pc) := sa_c (sa_c (sa_c (sa_c (sa_c (sa_l s_1_0) (sa_l s_1_1)) (sa_c (sa_l s_1_2) (sa_l s_1_3))) (sa_c (sa_c (sa_l s_1_6) (sa_l s_1_9)) (sa_c (sa_l s_1_10) (sa_l s_1_11)))) (sa_c (sa_c (sa_c (sa_l s_1_14) (sa_l s_1_15)) (sa_c (sa_l s_1_16) (sa_l s_1_19))) (sa_c (sa_c (sa_l s_1_20) (sa_l s_1_21)) (sa_c (sa_l s_1_24) (sa_l s_1_25))))) (sa_c (sa_c (sa_c (sa_c (sa_l s_1_28) (sa_l s_1_29)) (sa_c (sa_l s_1_32) (sa_l s_1_33))) (sa_c (sa_c (sa_l s_1_36) (sa_l s_1_37)) (sa_c (sa_l s_1_38) (sa_l s_1_41)))) (sa_c (sa_c (sa_c (sa_l s_1_42) (sa_l s_1_43)) (sa_c (sa_l s_1_44) (sa_l s_1_47))) (sa_c (sa_c (sa_l s_1_50) (sa_l s_1_51)) (sa_c (sa_l s_1_52) (sa_l s_1_55)))))
abbrev S2 (pc : Nat) (x : XI) : Prop := SA "WeekFoot" cX0_in 3 "in" (some .boolean) pc x
theorem s_2_0 : S2 0 (ia_il 1 0) := sa_n (snd_iload_n dX0_in_0 rfl rfl) on_il
theorem s_2_1 : S2 1 (ia_il 2 1) := sa_n (snd_iload_n dX0_in_1 rfl rfl) on_il
theorem s_2_2 : S2 2 (ia_ic k2l 5 14) := sa_b (sndB_ic_lt dX0_in_2 rfl rfl) on_ic
theorem s_2_5 : S2 5 (ia_il 6 0) := sa_n (snd_iload_n dX0_in_5 rfl rfl) on_il
theorem s_2_6 : S2 6 (ia_il 7 2) := sa_n (snd_iload_n dX0_in_6 rfl rfl) on_il
theorem s_2_7 : S2 7 (ia_ic k2G 10 14) := sa_b (sndB_ic_gt dX0_in_7 rfl rfl) on_ic
theorem s_2_10 : S2 10 (ia_k 11 1) := sa_n (snd_iconst dX0_in_10 rfl (okI_c rfl) rfl) on_k
theorem s_2_11 : S2 11 (ia_go 15) := sa_n (snd_goto dX0_in_11 rfl) on_go
theorem s_2_14 : S2 14 (ia_k 15 0) := sa_n (snd_iconst dX0_in_14 rfl (okI_c rfl) rfl) on_k
theorem s_2_15 : S2 15 (ia_retZ) := sa_t (st_retZ dX0_in_15 rfl) on_retZ
theorem sa_2 (pc : Nat) : S2 pc (cd_2 pc) := sa_c (sa_c (sa_c (sa_l s_2_0) (sa_l s_2_1)) (sa_c (sa_l s_2_2) (sa_c (sa_l s_2_5) (sa_l s_2_6)))) (sa_c (sa_c (sa_l s_2_7) (sa_l s_2_10)) (sa_c (sa_l s_2_11) (sa_c (sa_l s_2_14) (sa_l s_2_15))))
abbrev S3 (pc : Nat) (x : XI) : Prop := SA "WeekFoot" cX0_refuse 2 "refuse" (some .int) pc x
theorem s_3_0 : S3 0 (ia_al 1 0) := sa_n (snd_aload_n dX0_refuse_0 rfl rfl) on_al
theorem s_3_1 : S3 1 (ia_il 2 1) := sa_n (snd_iload_n dX0_refuse_1 rfl rfl) on_il
theorem s_3_2 : S3 2 (ia_pfI 5 1 0) := sa_n (snd_pfI ci_1 (k := 0) (lt_c rfl) dX0_refuse_2 q874 (Or.inl rfl) (Or.inl rfl) (rfl) rfl rfl) on_pfI
theorem s_3_5 : S3 5 (ia_al 6 0) := sa_n (snd_aload_n dX0_refuse_5 rfl rfl) on_al
theorem s_3_6 : S3 6 (ia_gfR 9 1 1) := sa_n (snd_gfR ci_1 (k := 1) (lt_c rfl) dX0_refuse_6 (Or.inl q875) (Or.inl rfl) (fun _ _ _ _ => rfl) rfl rfl) on_gfR
theorem s_3_9 : S3 9 (ia_il 10 1) := sa_n (snd_iload_n dX0_refuse_9 rfl rfl) on_il
theorem s_3_10 : S3 10 (ia_neg 11) := sa_n (snd_ineg dX0_refuse_10 rfl) on_neg
theorem s_3_11 : S3 11 (ia_dup2 12) := sa_n (snd_dup2 dX0_refuse_11 rfl) on_dup2
theorem s_3_12 : S3 12 (ia_ldI 13 100) := sa_n (snd_iaload dX0_refuse_12 rfl) on_ldI
theorem s_3_13 : S3 13 (ia_k 14 1) := sa_n (snd_iconst dX0_refuse_13 rfl (okI_c rfl) rfl) on_k
theorem s_3_14 : S3 14 (ia_add 15) := sa_n (snd_iadd dX0_refuse_14 rfl) on_add
theorem s_3_15 : S3 15 (ia_stI 16) := sa_n (snd_iastore dX0_refuse_15 rfl) on_stI
theorem s_3_16 : S3 16 (ia_il 17 1) := sa_n (snd_iload_n dX0_refuse_16 rfl rfl) on_il
theorem s_3_17 : S3 17 (ia_retI) := sa_t (st_retI dX0_refuse_17 rfl) on_retI
theorem sa_3 (pc : Nat) : S3 pc (cd_3 pc) := sa_c (sa_c (sa_c (sa_l s_3_0) (sa_c (sa_l s_3_1) (sa_l s_3_2))) (sa_c (sa_c (sa_l s_3_5) (sa_l s_3_6)) (sa_c (sa_l s_3_9) (sa_l s_3_10)))) (sa_c (sa_c (sa_l s_3_11) (sa_c (sa_l s_3_12) (sa_l s_3_13))) (sa_c (sa_c (sa_l s_3_14) (sa_l s_3_15)) (sa_c (sa_l s_3_16) (sa_l s_3_17))))
abbrev S4 (pc : Nat) (x : XI) : Prop := SA "WeekFoot" cX0_done 2 "done" (some .int) pc x
theorem s_4_0 : S4 0 (ia_al 1 0) := sa_n (snd_aload_n dX0_done_0 rfl rfl) on_al
theorem s_4_1 : S4 1 (ia_k 2 0) := sa_n (snd_iconst dX0_done_1 rfl (okI_c rfl) rfl) on_k
theorem s_4_2 : S4 2 (ia_pfI 5 1 0) := sa_n (snd_pfI ci_1 (k := 0) (lt_c rfl) dX0_done_2 q874 (Or.inl rfl) (Or.inl rfl) (rfl) rfl rfl) on_pfI
theorem s_4_5 : S4 5 (ia_il 6 1) := sa_n (snd_iload_n dX0_done_5 rfl rfl) on_il
theorem s_4_6 : S4 6 (ia_retI) := sa_t (st_retI dX0_done_6 rfl) on_retI
theorem sa_4 (pc : Nat) : S4 pc (cd_4 pc) := sa_c (sa_c (sa_l s_4_0) (sa_l s_4_1)) (sa_c (sa_l s_4_2) (sa_c (sa_l s_4_5) (sa_l s_4_6)))
abbrev S5 (pc : Nat) (x : XI) : Prop := SA "WeekFoot" cX0_back 2 "back" (some .int) pc x
theorem s_5_0 : S5 0 (ia_il 1 1) := sa_n (snd_iload_n dX0_back_0 rfl rfl) on_il
theorem s_5_1 : S5 1 (ia_k 2 0) := sa_n (snd_iconst dX0_back_1 rfl (okI_c rfl) rfl) on_k
theorem s_5_2 : S5 2 (ia_k 3 1) := sa_n (snd_iconst dX0_back_2 rfl (okI_c rfl) rfl) on_k
theorem s_5_3 : S5 3 (ia_stat 6 3 2 3) := sk_S me_2 q138 dX0_back_3 rfl
theorem s_5_6 : S5 6 (ia_if k0n 9 15) := sa_b (sndB_if_ne dX0_back_6 rfl rfl) on_if
theorem s_5_9 : S5 9 (ia_al 10 0) := sa_n (snd_aload_n dX0_back_9 rfl rfl) on_al
theorem s_5_10 : S5 10 (ia_k 11 (-1)) := sa_n (snd_iconst dX0_back_10 rfl (okI_c rfl) rfl) on_k
theorem s_5_11 : S5 11 (ia_call 14 2 1 3 2) := sk_V me_3 q141 dX0_back_11 rfl
theorem s_5_14 : S5 14 (ia_retI) := sa_t (st_retI dX0_back_14 rfl) on_retI
theorem s_5_15 : S5 15 (ia_al 16 0) := sa_n (snd_aload_n dX0_back_15 rfl rfl) on_al
theorem s_5_16 : S5 16 (ia_gfR 19 1 5) := sa_n (snd_gfR ci_1 (k := 5) (lt_c rfl) dX0_back_16 (Or.inl q884) (Or.inl rfl) (fun _ _ _ _ => rfl) rfl rfl) on_gfR
theorem s_5_19 : S5 19 (ia_il 20 1) := sa_n (snd_iload_n dX0_back_19 rfl rfl) on_il
theorem s_5_20 : S5 20 (ia_ldR 21 105) := sa_n (snd_aaload (by decide) dX0_back_20 rfl) on_ldR
theorem s_5_21 : S5 21 (ia_nnl 24 31) := sa_b (sndB_nnl dX0_back_21 rfl rfl) on_nnl
theorem s_5_24 : S5 24 (ia_al 25 0) := sa_n (snd_aload_n dX0_back_24 rfl rfl) on_al
theorem s_5_25 : S5 25 (ia_k 27 (-2)) := sa_n (snd_bipush dX0_back_25 (by decide) (okI_c rfl) rfl) on_k
theorem s_5_27 : S5 27 (ia_call 30 2 1 3 2) := sk_V me_3 q141 dX0_back_27 rfl
theorem s_5_30 : S5 30 (ia_retI) := sa_t (st_retI dX0_back_30 rfl) on_retI
theorem s_5_31 : S5 31 (ia_al 32 0) := sa_n (snd_aload_n dX0_back_31 rfl rfl) on_al
theorem s_5_32 : S5 32 (ia_gfR 35 1 4) := sa_n (snd_gfR ci_1 (k := 4) (lt_c rfl) dX0_back_32 (Or.inl q883) (Or.inl rfl) (fun _ _ _ _ => rfl) rfl rfl) on_gfR
theorem s_5_35 : S5 35 (ia_al 36 0) := sa_n (snd_aload_n dX0_back_35 rfl rfl) on_al
theorem s_5_36 : S5 36 (ia_gfR 39 1 5) := sa_n (snd_gfR ci_1 (k := 5) (lt_c rfl) dX0_back_36 (Or.inl q884) (Or.inl rfl) (fun _ _ _ _ => rfl) rfl rfl) on_gfR
theorem s_5_39 : S5 39 (ia_il 40 1) := sa_n (snd_iload_n dX0_back_39 rfl rfl) on_il
theorem s_5_40 : S5 40 (ia_ldR 41 105) := sa_n (snd_aaload (by decide) dX0_back_40 rfl) on_ldR
theorem s_5_41 : S5 41 (ia_call 44 2 3 82 2) := sk_V me_82 q227 dX0_back_41 rfl
theorem s_5_44 : S5 44 (ia_al 45 0) := sa_n (snd_aload_n dX0_back_44 rfl rfl) on_al
theorem s_5_45 : S5 45 (ia_k 46 0) := sa_n (snd_iconst dX0_back_45 rfl (okI_c rfl) rfl) on_k
theorem s_5_46 : S5 46 (ia_call 49 2 1 6 2) := sk_V me_6 q309 dX0_back_46 rfl
theorem s_5_49 : S5 49 (ia_retI) := sa_t (st_retI dX0_back_49 rfl) on_retI
theorem sa_5 (pc : Nat) : S5 pc (cd_5 pc) := sa_c (sa_c (sa_c (sa_c (sa_l s_5_0) (sa_c (sa_l s_5_1) (sa_l s_5_2))) (sa_c (sa_c (sa_l s_5_3) (sa_l s_5_6)) (sa_c (sa_l s_5_9) (sa_l s_5_10)))) (sa_c (sa_c (sa_l s_5_11) (sa_c (sa_l s_5_14) (sa_l s_5_15))) (sa_c (sa_c (sa_l s_5_16) (sa_l s_5_19)) (sa_c (sa_l s_5_20) (sa_l s_5_21))))) (sa_c (sa_c (sa_c (sa_l s_5_24) (sa_c (sa_l s_5_25) (sa_l s_5_27))) (sa_c (sa_c (sa_l s_5_30) (sa_l s_5_31)) (sa_c (sa_l s_5_32) (sa_l s_5_35)))) (sa_c (sa_c (sa_c (sa_l s_5_36) (sa_l s_5_39)) (sa_c (sa_l s_5_40) (sa_l s_5_41))) (sa_c (sa_c (sa_l s_5_44) (sa_l s_5_45)) (sa_c (sa_l s_5_46) (sa_l s_5_49)))))
abbrev S6 (pc : Nat) (x : XI) : Prop := SA "WeekFoot" cX0_told0 2 "told0" (some .int) pc x
theorem s_6_0 : S6 0 (ia_al 1 0) := sa_n (snd_aload_n dX0_told0_0 rfl rfl) on_al
theorem s_6_1 : S6 1 (ia_dup 2) := sa_n (snd_dup dX0_told0_1 rfl) on_dup
theorem s_6_2 : S6 2 (ia_gfI 5 1 10) := sa_n (snd_gfI ci_1 (k := 10) (lt_c rfl) dX0_told0_2 (Or.inl q891) (Or.inl rfl) (fun _ _ _ _ => rfl) rfl rfl) on_gfI
theorem s_6_5 : S6 5 (ia_k 6 1) := sa_n (snd_iconst dX0_told0_5 rfl (okI_c rfl) rfl) on_k
theorem s_6_6 : S6 6 (ia_add 7) := sa_n (snd_iadd dX0_told0_6 rfl) on_add
theorem s_6_7 : S6 7 (ia_pfI 10 1 10) := sa_n (snd_pfI ci_1 (k := 10) (lt_c rfl) dX0_told0_7 q891 (Or.inl rfl) (Or.inl rfl) (rfl) rfl rfl) on_pfI
theorem s_6_10 : S6 10 (ia_al 11 0) := sa_n (snd_aload_n dX0_told0_10 rfl rfl) on_al
theorem s_6_11 : S6 11 (ia_il 12 1) := sa_n (snd_iload_n dX0_told0_11 rfl rfl) on_il
theorem s_6_12 : S6 12 (ia_call 15 2 1 4 2) := sk_V me_4 q301 dX0_told0_12 rfl
theorem s_6_15 : S6 15 (ia_retI) := sa_t (st_retI dX0_told0_15 rfl) on_retI
theorem sa_6 (pc : Nat) : S6 pc (cd_6 pc) := sa_c (sa_c (sa_c (sa_l s_6_0) (sa_l s_6_1)) (sa_c (sa_l s_6_2) (sa_c (sa_l s_6_5) (sa_l s_6_6)))) (sa_c (sa_c (sa_l s_6_7) (sa_l s_6_10)) (sa_c (sa_l s_6_11) (sa_c (sa_l s_6_12) (sa_l s_6_15))))
abbrev S7 (pc : Nat) (x : XI) : Prop := SA "WeekFoot" cX0_week 3 "week" (some .int) pc x
theorem s_7_0 : S7 0 (ia_il 1 1) := sa_n (snd_iload_n dX0_week_0 rfl rfl) on_il
theorem s_7_1 : S7 1 (ia_stat 4 1 8 1) := sk_S me_8 q317 dX0_week_1 rfl
theorem s_7_4 : S7 4 (ia_if k0e 7 35) := sa_b (sndB_if_eq dX0_week_4 rfl rfl) on_if
theorem s_7_7 : S7 7 (ia_il 8 2) := sa_n (snd_iload_n dX0_week_7 rfl rfl) on_il
theorem s_7_8 : S7 8 (ia_k 9 (-1)) := sa_n (snd_iconst dX0_week_8 rfl (okI_c rfl) rfl) on_k
theorem s_7_9 : S7 9 (ia_ic k2e 12 19) := sa_b (sndB_ic_eq dX0_week_9 rfl rfl) on_ic
theorem s_7_12 : S7 12 (ia_il 13 2) := sa_n (snd_iload_n dX0_week_12 rfl rfl) on_il
theorem s_7_13 : S7 13 (ia_stat 16 1 9 1) := sk_S me_9 q320 dX0_week_13 rfl
theorem s_7_16 : S7 16 (ia_if k0e 19 35) := sa_b (sndB_if_eq dX0_week_16 rfl rfl) on_if
theorem s_7_19 : S7 19 (ia_al 20 0) := sa_n (snd_aload_n dX0_week_19 rfl rfl) on_al
theorem s_7_20 : S7 20 (ia_al 21 0) := sa_n (snd_aload_n dX0_week_20 rfl rfl) on_al
theorem s_7_21 : S7 21 (ia_gfR 24 1 4) := sa_n (snd_gfR ci_1 (k := 4) (lt_c rfl) dX0_week_21 (Or.inl q883) (Or.inl rfl) (fun _ _ _ _ => rfl) rfl rfl) on_gfR
theorem s_7_24 : S7 24 (ia_gfR 27 3 0) := sa_n (snd_gfR ci_3 (k := 0) (lt_c rfl) dX0_week_24 (Or.inr ⟨_, q188⟩) (Or.inl rfl) (fun _ _ _ _ => rfl) rfl rfl) on_gfR
theorem s_7_27 : S7 27 (ia_il 28 1) := sa_n (snd_iload_n dX0_week_27 rfl rfl) on_il
theorem s_7_28 : S7 28 (ia_il 29 2) := sa_n (snd_iload_n dX0_week_28 rfl rfl) on_il
theorem s_7_29 : S7 29 (ia_call 32 4 1 10 5) := sk_V me_10 q323 dX0_week_29 rfl
theorem s_7_32 : S7 32 (ia_go 40) := sa_n (snd_goto dX0_week_32 rfl) on_go
theorem s_7_35 : S7 35 (ia_al 36 0) := sa_n (snd_aload_n dX0_week_35 rfl rfl) on_al
theorem s_7_36 : S7 36 (ia_k 37 (-1)) := sa_n (snd_iconst dX0_week_36 rfl (okI_c rfl) rfl) on_k
theorem s_7_37 : S7 37 (ia_call 40 2 1 3 2) := sk_V me_3 q141 dX0_week_37 rfl
theorem s_7_40 : S7 40 (ia_retI) := sa_t (st_retI dX0_week_40 rfl) on_retI
theorem sa_7 (pc : Nat) : S7 pc (cd_7 pc) := sa_c (sa_c (sa_c (sa_c (sa_l s_7_0) (sa_l s_7_1)) (sa_c (sa_l s_7_4) (sa_c (sa_l s_7_7) (sa_l s_7_8)))) (sa_c (sa_c (sa_l s_7_9) (sa_l s_7_12)) (sa_c (sa_l s_7_13) (sa_c (sa_l s_7_16) (sa_l s_7_19))))) (sa_c (sa_c (sa_c (sa_l s_7_20) (sa_l s_7_21)) (sa_c (sa_l s_7_24) (sa_c (sa_l s_7_27) (sa_l s_7_28)))) (sa_c (sa_c (sa_l s_7_29) (sa_c (sa_l s_7_32) (sa_l s_7_35))) (sa_c (sa_l s_7_36) (sa_c (sa_l s_7_37) (sa_l s_7_40)))))
abbrev S8 (pc : Nat) (x : XI) : Prop := SA "WeekFoot" cX0_isWeek 1 "isWeek" (some .boolean) pc x
theorem s_8_0 : S8 0 (ia_il 1 0) := sa_n (snd_iload_n dX0_isWeek_0 rfl rfl) on_il
theorem s_8_1 : S8 1 (ia_k 2 0) := sa_n (snd_iconst dX0_isWeek_1 rfl (okI_c rfl) rfl) on_k
theorem s_8_2 : S8 2 (ia_k 4 31) := sa_n (snd_bipush dX0_isWeek_2 (by decide) (okI_c rfl) rfl) on_k
theorem s_8_4 : S8 4 (ia_stat 7 3 2 3) := sk_S me_2 q138 dX0_isWeek_4 rfl
theorem s_8_7 : S8 7 (ia_retZ) := sa_t (st_retZ dX0_isWeek_7 rfl) on_retZ
theorem sa_8 (pc : Nat) : S8 pc (cd_8 pc) := sa_c (sa_c (sa_l s_8_0) (sa_l s_8_1)) (sa_c (sa_l s_8_2) (sa_c (sa_l s_8_4) (sa_l s_8_7)))
abbrev S9 (pc : Nat) (x : XI) : Prop := SA "WeekFoot" cX0_isKeeper 1 "isKeeper" (some .boolean) pc x
theorem s_9_0 : S9 0 (ia_il 1 0) := sa_n (snd_iload_n dX0_isKeeper_0 rfl rfl) on_il
theorem s_9_1 : S9 1 (ia_k 2 0) := sa_n (snd_iconst dX0_isKeeper_1 rfl (okI_c rfl) rfl) on_k
theorem s_9_2 : S9 2 (ia_k 3 3) := sa_n (snd_iconst dX0_isKeeper_2 rfl (okI_c rfl) rfl) on_k
theorem s_9_3 : S9 3 (ia_stat 6 3 2 3) := sk_S me_2 q138 dX0_isKeeper_3 rfl
theorem s_9_6 : S9 6 (ia_retZ) := sa_t (st_retZ dX0_isKeeper_6 rfl) on_retZ
theorem sa_9 (pc : Nat) : S9 pc (cd_9 pc) := sa_c (sa_c (sa_l s_9_0) (sa_l s_9_1)) (sa_c (sa_l s_9_2) (sa_c (sa_l s_9_3) (sa_l s_9_6)))
abbrev S10 (pc : Nat) (x : XI) : Prop := SA "WeekFoot" cX0_replaces 5 "replaces" (some .int) pc x
theorem s_10_0 : S10 0 (ia_al 1 1) := sa_n (snd_aload_n dX0_replaces_0 rfl rfl) on_al
theorem s_10_1 : S10 1 (ia_il 2 2) := sa_n (snd_iload_n dX0_replaces_1 rfl rfl) on_il
theorem s_10_2 : S10 2 (ia_ldI 3 100) := sa_n (snd_iaload dX0_replaces_2 rfl) on_ldI
theorem s_10_3 : S10 3 (ia_is 5 4) := sa_n (snd_istore dX0_replaces_3 (lt_c rfl) rfl) on_is
theorem s_10_5 : S10 5 (ia_al 6 1) := sa_n (snd_aload_n dX0_replaces_5 rfl rfl) on_al
theorem s_10_6 : S10 6 (ia_il 7 2) := sa_n (snd_iload_n dX0_replaces_6 rfl rfl) on_il
theorem s_10_7 : S10 7 (ia_il 8 3) := sa_n (snd_iload_n dX0_replaces_7 rfl rfl) on_il
theorem s_10_8 : S10 8 (ia_stI 9) := sa_n (snd_iastore dX0_replaces_8 rfl) on_stI
theorem s_10_9 : S10 9 (ia_al 10 0) := sa_n (snd_aload_n dX0_replaces_9 rfl rfl) on_al
theorem s_10_10 : S10 10 (ia_il 12 4) := sa_n (snd_iload dX0_replaces_10 rfl) on_il
theorem s_10_12 : S10 12 (ia_call 15 2 1 6 2) := sk_V me_6 q309 dX0_replaces_12 rfl
theorem s_10_15 : S10 15 (ia_retI) := sa_t (st_retI dX0_replaces_15 rfl) on_retI
theorem sa_10 (pc : Nat) : S10 pc (cd_10 pc) := sa_c (sa_c (sa_c (sa_l s_10_0) (sa_c (sa_l s_10_1) (sa_l s_10_2))) (sa_c (sa_l s_10_3) (sa_c (sa_l s_10_5) (sa_l s_10_6)))) (sa_c (sa_c (sa_l s_10_7) (sa_c (sa_l s_10_8) (sa_l s_10_9))) (sa_c (sa_l s_10_10) (sa_c (sa_l s_10_12) (sa_l s_10_15))))
abbrev S11 (pc : Nat) (x : XI) : Prop := SA "WeekFoot" cX0_cut 3 "cut" (some .int) pc x
theorem s_11_0 : S11 0 (ia_il 1 1) := sa_n (snd_iload_n dX0_cut_0 rfl rfl) on_il
theorem s_11_1 : S11 1 (ia_stat 4 1 12 1) := sk_S me_12 q331 dX0_cut_1 rfl
theorem s_11_4 : S11 4 (ia_if k0e 7 38) := sa_b (sndB_if_eq dX0_cut_4 rfl rfl) on_if
theorem s_11_7 : S11 7 (ia_il 8 2) := sa_n (snd_iload_n dX0_cut_7 rfl rfl) on_il
theorem s_11_8 : S11 8 (ia_k 9 (-1)) := sa_n (snd_iconst dX0_cut_8 rfl (okI_c rfl) rfl) on_k
theorem s_11_9 : S11 9 (ia_ic k2e 12 22) := sa_b (sndB_ic_eq dX0_cut_9 rfl rfl) on_ic
theorem s_11_12 : S11 12 (ia_il 13 2) := sa_n (snd_iload_n dX0_cut_12 rfl rfl) on_il
theorem s_11_13 : S11 13 (ia_k 14 1) := sa_n (snd_iconst dX0_cut_13 rfl (okI_c rfl) rfl) on_k
theorem s_11_14 : S11 14 (ia_k 16 31) := sa_n (snd_bipush dX0_cut_14 (by decide) (okI_c rfl) rfl) on_k
theorem s_11_16 : S11 16 (ia_stat 19 3 2 3) := sk_S me_2 q138 dX0_cut_16 rfl
theorem s_11_19 : S11 19 (ia_if k0e 22 38) := sa_b (sndB_if_eq dX0_cut_19 rfl rfl) on_if
theorem s_11_22 : S11 22 (ia_al 23 0) := sa_n (snd_aload_n dX0_cut_22 rfl rfl) on_al
theorem s_11_23 : S11 23 (ia_al 24 0) := sa_n (snd_aload_n dX0_cut_23 rfl rfl) on_al
theorem s_11_24 : S11 24 (ia_gfR 27 1 4) := sa_n (snd_gfR ci_1 (k := 4) (lt_c rfl) dX0_cut_24 (Or.inl q883) (Or.inl rfl) (fun _ _ _ _ => rfl) rfl rfl) on_gfR
theorem s_11_27 : S11 27 (ia_gfR 30 3 1) := sa_n (snd_gfR ci_3 (k := 1) (lt_c rfl) dX0_cut_27 (Or.inr ⟨_, q192⟩) (Or.inl rfl) (fun _ _ _ _ => rfl) rfl rfl) on_gfR
theorem s_11_30 : S11 30 (ia_il 31 1) := sa_n (snd_iload_n dX0_cut_30 rfl rfl) on_il
theorem s_11_31 : S11 31 (ia_il 32 2) := sa_n (snd_iload_n dX0_cut_31 rfl rfl) on_il
theorem s_11_32 : S11 32 (ia_call 35 4 1 10 5) := sk_V me_10 q323 dX0_cut_32 rfl
theorem s_11_35 : S11 35 (ia_go 43) := sa_n (snd_goto dX0_cut_35 rfl) on_go
theorem s_11_38 : S11 38 (ia_al 39 0) := sa_n (snd_aload_n dX0_cut_38 rfl rfl) on_al
theorem s_11_39 : S11 39 (ia_k 40 (-1)) := sa_n (snd_iconst dX0_cut_39 rfl (okI_c rfl) rfl) on_k
theorem s_11_40 : S11 40 (ia_call 43 2 1 3 2) := sk_V me_3 q141 dX0_cut_40 rfl
theorem s_11_43 : S11 43 (ia_retI) := sa_t (st_retI dX0_cut_43 rfl) on_retI
theorem sa_11 (pc : Nat) : S11 pc (cd_11 pc) := sa_c (sa_c (sa_c (sa_c (sa_l s_11_0) (sa_l s_11_1)) (sa_c (sa_l s_11_4) (sa_c (sa_l s_11_7) (sa_l s_11_8)))) (sa_c (sa_c (sa_l s_11_9) (sa_c (sa_l s_11_12) (sa_l s_11_13))) (sa_c (sa_l s_11_14) (sa_c (sa_l s_11_16) (sa_l s_11_19))))) (sa_c (sa_c (sa_c (sa_l s_11_22) (sa_c (sa_l s_11_23) (sa_l s_11_24))) (sa_c (sa_l s_11_27) (sa_c (sa_l s_11_30) (sa_l s_11_31)))) (sa_c (sa_c (sa_l s_11_32) (sa_c (sa_l s_11_35) (sa_l s_11_38))) (sa_c (sa_l s_11_39) (sa_c (sa_l s_11_40) (sa_l s_11_43)))))
abbrev S12 (pc : Nat) (x : XI) : Prop := SA "WeekFoot" cX0_isThing 1 "isThing" (some .boolean) pc x
theorem s_12_0 : S12 0 (ia_il 1 0) := sa_n (snd_iload_n dX0_isThing_0 rfl rfl) on_il
theorem s_12_1 : S12 1 (ia_k 2 0) := sa_n (snd_iconst dX0_isThing_1 rfl (okI_c rfl) rfl) on_k
theorem s_12_2 : S12 2 (ia_k 3 5) := sa_n (snd_iconst dX0_isThing_2 rfl (okI_c rfl) rfl) on_k
theorem s_12_3 : S12 3 (ia_stat 6 3 2 3) := sk_S me_2 q138 dX0_isThing_3 rfl
theorem s_12_6 : S12 6 (ia_retZ) := sa_t (st_retZ dX0_isThing_6 rfl) on_retZ
theorem sa_12 (pc : Nat) : S12 pc (cd_12 pc) := sa_c (sa_c (sa_l s_12_0) (sa_l s_12_1)) (sa_c (sa_l s_12_2) (sa_c (sa_l s_12_3) (sa_l s_12_6)))
abbrev S13 (pc : Nat) (x : XI) : Prop := SA "WeekFoot" cX0_shorter 3 "shorter" (some .int) pc x
theorem s_13_0 : S13 0 (ia_il 1 1) := sa_n (snd_iload_n dX0_shorter_0 rfl rfl) on_il
theorem s_13_1 : S13 1 (ia_stat 4 1 9 1) := sk_S me_9 q320 dX0_shorter_1 rfl
theorem s_13_4 : S13 4 (ia_if k0e 7 19) := sa_b (sndB_if_eq dX0_shorter_4 rfl rfl) on_if
theorem s_13_7 : S13 7 (ia_il 8 2) := sa_n (snd_iload_n dX0_shorter_7 rfl rfl) on_il
theorem s_13_8 : S13 8 (ia_stat 11 1 9 1) := sk_S me_9 q320 dX0_shorter_8 rfl
theorem s_13_11 : S13 11 (ia_if k0e 14 19) := sa_b (sndB_if_eq dX0_shorter_11 rfl rfl) on_if
theorem s_13_14 : S13 14 (ia_il 15 1) := sa_n (snd_iload_n dX0_shorter_14 rfl rfl) on_il
theorem s_13_15 : S13 15 (ia_il 16 2) := sa_n (snd_iload_n dX0_shorter_15 rfl rfl) on_il
theorem s_13_16 : S13 16 (ia_ic k2n 19 25) := sa_b (sndB_ic_ne dX0_shorter_16 rfl rfl) on_ic
theorem s_13_19 : S13 19 (ia_al 20 0) := sa_n (snd_aload_n dX0_shorter_19 rfl rfl) on_al
theorem s_13_20 : S13 20 (ia_k 21 (-1)) := sa_n (snd_iconst dX0_shorter_20 rfl (okI_c rfl) rfl) on_k
theorem s_13_21 : S13 21 (ia_call 24 2 1 3 2) := sk_V me_3 q141 dX0_shorter_21 rfl
theorem s_13_24 : S13 24 (ia_retI) := sa_t (st_retI dX0_shorter_24 rfl) on_retI
theorem s_13_25 : S13 25 (ia_al 26 0) := sa_n (snd_aload_n dX0_shorter_25 rfl rfl) on_al
theorem s_13_26 : S13 26 (ia_gfR 29 1 4) := sa_n (snd_gfR ci_1 (k := 4) (lt_c rfl) dX0_shorter_26 (Or.inl q883) (Or.inl rfl) (fun _ _ _ _ => rfl) rfl rfl) on_gfR
theorem s_13_29 : S13 29 (ia_il 30 1) := sa_n (snd_iload_n dX0_shorter_29 rfl rfl) on_il
theorem s_13_30 : S13 30 (ia_il 31 2) := sa_n (snd_iload_n dX0_shorter_30 rfl rfl) on_il
theorem s_13_31 : S13 31 (ia_call 34 3 3 83 5) := sk_V me_83 q338 dX0_shorter_31 rfl
theorem s_13_34 : S13 34 (ia_if k0e 37 44) := sa_b (sndB_if_eq dX0_shorter_34 rfl rfl) on_if
theorem s_13_37 : S13 37 (ia_al 38 0) := sa_n (snd_aload_n dX0_shorter_37 rfl rfl) on_al
theorem s_13_38 : S13 38 (ia_k 40 (-3)) := sa_n (snd_bipush dX0_shorter_38 (by decide) (okI_c rfl) rfl) on_k
theorem s_13_40 : S13 40 (ia_call 43 2 1 3 2) := sk_V me_3 q141 dX0_shorter_40 rfl
theorem s_13_43 : S13 43 (ia_retI) := sa_t (st_retI dX0_shorter_43 rfl) on_retI
theorem s_13_44 : S13 44 (ia_al 45 0) := sa_n (snd_aload_n dX0_shorter_44 rfl rfl) on_al
theorem s_13_45 : S13 45 (ia_gfR 48 1 4) := sa_n (snd_gfR ci_1 (k := 4) (lt_c rfl) dX0_shorter_45 (Or.inl q883) (Or.inl rfl) (fun _ _ _ _ => rfl) rfl rfl) on_gfR
theorem s_13_48 : S13 48 (ia_gfI 51 3 6) := sa_n (snd_gfI ci_3 (k := 6) (lt_c rfl) dX0_shorter_48 (Or.inr ⟨_, q211⟩) (Or.inl rfl) (fun _ _ _ _ => rfl) rfl rfl) on_gfI
theorem s_13_51 : S13 51 (ia_k 53 6) := sa_n (snd_bipush dX0_shorter_51 (by decide) (okI_c rfl) rfl) on_k
theorem s_13_53 : S13 53 (ia_ic k2n 56 63) := sa_b (sndB_ic_ne dX0_shorter_53 rfl rfl) on_ic
theorem s_13_56 : S13 56 (ia_al 57 0) := sa_n (snd_aload_n dX0_shorter_56 rfl rfl) on_al
theorem s_13_57 : S13 57 (ia_k 59 (-5)) := sa_n (snd_bipush dX0_shorter_57 (by decide) (okI_c rfl) rfl) on_k
theorem s_13_59 : S13 59 (ia_call 62 2 1 3 2) := sk_V me_3 q141 dX0_shorter_59 rfl
theorem s_13_62 : S13 62 (ia_retI) := sa_t (st_retI dX0_shorter_62 rfl) on_retI
theorem s_13_63 : S13 63 (ia_al 64 0) := sa_n (snd_aload_n dX0_shorter_63 rfl rfl) on_al
theorem s_13_64 : S13 64 (ia_gfR 67 1 4) := sa_n (snd_gfR ci_1 (k := 4) (lt_c rfl) dX0_shorter_64 (Or.inl q883) (Or.inl rfl) (fun _ _ _ _ => rfl) rfl rfl) on_gfR
theorem s_13_67 : S13 67 (ia_il 68 1) := sa_n (snd_iload_n dX0_shorter_67 rfl rfl) on_il
theorem s_13_68 : S13 68 (ia_il 69 2) := sa_n (snd_iload_n dX0_shorter_68 rfl rfl) on_il
theorem s_13_69 : S13 69 (ia_call 72 3 3 84 3) := sk_V me_84 q342 dX0_shorter_69 rfl
theorem s_13_72 : S13 72 (ia_al 73 0) := sa_n (snd_aload_n dX0_shorter_72 rfl rfl) on_al
theorem s_13_73 : S13 73 (ia_al 74 0) := sa_n (snd_aload_n dX0_shorter_73 rfl rfl) on_al
theorem s_13_74 : S13 74 (ia_gfR 77 1 4) := sa_n (snd_gfR ci_1 (k := 4) (lt_c rfl) dX0_shorter_74 (Or.inl q883) (Or.inl rfl) (fun _ _ _ _ => rfl) rfl rfl) on_gfR
theorem s_13_77 : S13 77 (ia_gfI 80 3 6) := sa_n (snd_gfI ci_3 (k := 6) (lt_c rfl) dX0_shorter_77 (Or.inr ⟨_, q211⟩) (Or.inl rfl) (fun _ _ _ _ => rfl) rfl rfl) on_gfI
theorem s_13_80 : S13 80 (ia_call 83 2 1 6 2) := sk_V me_6 q309 dX0_shorter_80 rfl
theorem s_13_83 : S13 83 (ia_retI) := sa_t (st_retI dX0_shorter_83 rfl) on_retI
theorem sa_13 (pc : Nat) : S13 pc (cd_13 pc) := sa_c (sa_c (sa_c (sa_c (sa_c (sa_l s_13_0) (sa_l s_13_1)) (sa_c (sa_l s_13_4) (sa_c (sa_l s_13_7) (sa_l s_13_8)))) (sa_c (sa_c (sa_l s_13_11) (sa_l s_13_14)) (sa_c (sa_l s_13_15) (sa_c (sa_l s_13_16) (sa_l s_13_19))))) (sa_c (sa_c (sa_c (sa_l s_13_20) (sa_l s_13_21)) (sa_c (sa_l s_13_24) (sa_c (sa_l s_13_25) (sa_l s_13_26)))) (sa_c (sa_c (sa_l s_13_29) (sa_c (sa_l s_13_30) (sa_l s_13_31))) (sa_c (sa_l s_13_34) (sa_c (sa_l s_13_37) (sa_l s_13_38)))))) (sa_c (sa_c (sa_c (sa_c (sa_l s_13_40) (sa_l s_13_43)) (sa_c (sa_l s_13_44) (sa_c (sa_l s_13_45) (sa_l s_13_48)))) (sa_c (sa_c (sa_l s_13_51) (sa_c (sa_l s_13_53) (sa_l s_13_56))) (sa_c (sa_l s_13_57) (sa_c (sa_l s_13_59) (sa_l s_13_62))))) (sa_c (sa_c (sa_c (sa_l s_13_63) (sa_l s_13_64)) (sa_c (sa_l s_13_67) (sa_c (sa_l s_13_68) (sa_l s_13_69)))) (sa_c (sa_c (sa_l s_13_72) (sa_c (sa_l s_13_73) (sa_l s_13_74))) (sa_c (sa_l s_13_77) (sa_c (sa_l s_13_80) (sa_l s_13_83))))))
abbrev S14 (pc : Nat) (x : XI) : Prop := SA "WeekFoot" cX0_entry 5 "entry" (some .int) pc x
theorem s_14_0 : S14 0 (ia_il 1 1) := sa_n (snd_iload_n dX0_entry_0 rfl rfl) on_il
theorem s_14_1 : S14 1 (ia_il 2 2) := sa_n (snd_iload_n dX0_entry_1 rfl rfl) on_il
theorem s_14_2 : S14 2 (ia_il 3 3) := sa_n (snd_iload_n dX0_entry_2 rfl rfl) on_il
theorem s_14_3 : S14 3 (ia_il 5 4) := sa_n (snd_iload dX0_entry_3 rfl) on_il
theorem s_14_5 : S14 5 (ia_stat 8 4 15 4) := sk_S me_15 q350 dX0_entry_5 rfl
theorem s_14_8 : S14 8 (ia_if k0n 11 17) := sa_b (sndB_if_ne dX0_entry_8 rfl rfl) on_if
theorem s_14_11 : S14 11 (ia_al 12 0) := sa_n (snd_aload_n dX0_entry_11 rfl rfl) on_al
theorem s_14_12 : S14 12 (ia_k 13 (-1)) := sa_n (snd_iconst dX0_entry_12 rfl (okI_c rfl) rfl) on_k
theorem s_14_13 : S14 13 (ia_call 16 2 1 3 2) := sk_V me_3 q141 dX0_entry_13 rfl
theorem s_14_16 : S14 16 (ia_retI) := sa_t (st_retI dX0_entry_16 rfl) on_retI
theorem s_14_17 : S14 17 (ia_al 18 0) := sa_n (snd_aload_n dX0_entry_17 rfl rfl) on_al
theorem s_14_18 : S14 18 (ia_gfR 21 1 4) := sa_n (snd_gfR ci_1 (k := 4) (lt_c rfl) dX0_entry_18 (Or.inl q883) (Or.inl rfl) (fun _ _ _ _ => rfl) rfl rfl) on_gfR
theorem s_14_21 : S14 21 (ia_gfR 24 3 5) := sa_n (snd_gfR ci_3 (k := 5) (lt_c rfl) dX0_entry_21 (Or.inr ⟨_, q207⟩) (Or.inl rfl) (fun _ _ _ _ => rfl) rfl rfl) on_gfR
theorem s_14_24 : S14 24 (ia_call 27 1 16 254 1) := sk_V me_254 q353 dX0_entry_24 rfl
theorem s_14_27 : S14 27 (ia_k 29 24) := sa_n (snd_bipush dX0_entry_27 (by decide) (okI_c rfl) rfl) on_k
theorem s_14_29 : S14 29 (ia_ic k2n 32 39) := sa_b (sndB_ic_ne dX0_entry_29 rfl rfl) on_ic
theorem s_14_32 : S14 32 (ia_al 33 0) := sa_n (snd_aload_n dX0_entry_32 rfl rfl) on_al
theorem s_14_33 : S14 33 (ia_k 35 (-5)) := sa_n (snd_bipush dX0_entry_33 (by decide) (okI_c rfl) rfl) on_k
theorem s_14_35 : S14 35 (ia_call 38 2 1 3 2) := sk_V me_3 q141 dX0_entry_35 rfl
theorem s_14_38 : S14 38 (ia_retI) := sa_t (st_retI dX0_entry_38 rfl) on_retI
theorem s_14_39 : S14 39 (ia_al 40 0) := sa_n (snd_aload_n dX0_entry_39 rfl rfl) on_al
theorem s_14_40 : S14 40 (ia_gfR 43 1 4) := sa_n (snd_gfR ci_1 (k := 4) (lt_c rfl) dX0_entry_40 (Or.inl q883) (Or.inl rfl) (fun _ _ _ _ => rfl) rfl rfl) on_gfR
theorem s_14_43 : S14 43 (ia_new 46 7 4) := sa_n (snd_new ci_7 okt_7 dX0_entry_43 q357 q358 q113 rfl) on_new
theorem s_14_46 : S14 46 (ia_dup 47) := sa_n (snd_dup dX0_entry_46 rfl) on_dup
theorem s_14_47 : S14 47 (ia_il 48 1) := sa_n (snd_iload_n dX0_entry_47 rfl rfl) on_il
theorem s_14_48 : S14 48 (ia_il 49 2) := sa_n (snd_iload_n dX0_entry_48 rfl rfl) on_il
theorem s_14_49 : S14 49 (ia_il 50 3) := sa_n (snd_iload_n dX0_entry_49 rfl rfl) on_il
theorem s_14_50 : S14 50 (ia_il 52 4) := sa_n (snd_iload dX0_entry_50 rfl) on_il
theorem s_14_52 : S14 52 (ia_call 55 5 7 106 5) := sk_I me_106 (by decide) rfl q359 dX0_entry_52 rfl
theorem s_14_55 : S14 55 (ia_call 58 2 3 85 2) := sk_V me_85 q386 dX0_entry_55 rfl
theorem s_14_58 : S14 58 (ia_al 59 0) := sa_n (snd_aload_n dX0_entry_58 rfl rfl) on_al
theorem s_14_59 : S14 59 (ia_al 60 0) := sa_n (snd_aload_n dX0_entry_59 rfl rfl) on_al
theorem s_14_60 : S14 60 (ia_gfR 63 1 4) := sa_n (snd_gfR ci_1 (k := 4) (lt_c rfl) dX0_entry_60 (Or.inl q883) (Or.inl rfl) (fun _ _ _ _ => rfl) rfl rfl) on_gfR
theorem s_14_63 : S14 63 (ia_gfR 66 3 5) := sa_n (snd_gfR ci_3 (k := 5) (lt_c rfl) dX0_entry_63 (Or.inr ⟨_, q207⟩) (Or.inl rfl) (fun _ _ _ _ => rfl) rfl rfl) on_gfR
theorem s_14_66 : S14 66 (ia_call 69 1 16 254 1) := sk_V me_254 q353 dX0_entry_66 rfl
theorem s_14_69 : S14 69 (ia_k 70 1) := sa_n (snd_iconst dX0_entry_69 rfl (okI_c rfl) rfl) on_k
theorem s_14_70 : S14 70 (ia_sub 71) := sa_n (snd_isub dX0_entry_70 rfl) on_sub
theorem s_14_71 : S14 71 (ia_call 74 2 1 6 2) := sk_V me_6 q309 dX0_entry_71 rfl
theorem s_14_74 : S14 74 (ia_retI) := sa_t (st_retI dX0_entry_74 rfl) on_retI
theorem sa_14 (pc : Nat) : S14 pc (cd_14 pc) := sa_c (sa_c (sa_c (sa_c (sa_c (sa_l s_14_0) (sa_l s_14_1)) (sa_c (sa_l s_14_2) (sa_l s_14_3))) (sa_c (sa_c (sa_l s_14_5) (sa_l s_14_8)) (sa_c (sa_l s_14_11) (sa_c (sa_l s_14_12) (sa_l s_14_13))))) (sa_c (sa_c (sa_c (sa_l s_14_16) (sa_l s_14_17)) (sa_c (sa_l s_14_18) (sa_c (sa_l s_14_21) (sa_l s_14_24)))) (sa_c (sa_c (sa_l s_14_27) (sa_l s_14_29)) (sa_c (sa_l s_14_32) (sa_c (sa_l s_14_33) (sa_l s_14_35)))))) (sa_c (sa_c (sa_c (sa_c (sa_l s_14_38) (sa_l s_14_39)) (sa_c (sa_l s_14_40) (sa_c (sa_l s_14_43) (sa_l s_14_46)))) (sa_c (sa_c (sa_l s_14_47) (sa_l s_14_48)) (sa_c (sa_l s_14_49) (sa_c (sa_l s_14_50) (sa_l s_14_52))))) (sa_c (sa_c (sa_c (sa_l s_14_55) (sa_l s_14_58)) (sa_c (sa_l s_14_59) (sa_c (sa_l s_14_60) (sa_l s_14_63)))) (sa_c (sa_c (sa_l s_14_66) (sa_l s_14_69)) (sa_c (sa_l s_14_70) (sa_c (sa_l s_14_71) (sa_l s_14_74))))))
abbrev S15 (pc : Nat) (x : XI) : Prop := SA "WeekFoot" cX0_canBe 4 "canBe" (some .boolean) pc x
theorem s_15_0 : S15 0 (ia_il 1 0) := sa_n (snd_iload_n dX0_canBe_0 rfl rfl) on_il
theorem s_15_1 : S15 1 (ia_stat 4 1 12 1) := sk_S me_12 q331 dX0_canBe_1 rfl
theorem s_15_4 : S15 4 (ia_if k0e 7 37) := sa_b (sndB_if_eq dX0_canBe_4 rfl rfl) on_if
theorem s_15_7 : S15 7 (ia_il 8 1) := sa_n (snd_iload_n dX0_canBe_7 rfl rfl) on_il
theorem s_15_8 : S15 8 (ia_stat 11 1 8 1) := sk_S me_8 q317 dX0_canBe_8 rfl
theorem s_15_11 : S15 11 (ia_if k0e 14 37) := sa_b (sndB_if_eq dX0_canBe_11 rfl rfl) on_if
theorem s_15_14 : S15 14 (ia_il 15 2) := sa_n (snd_iload_n dX0_canBe_14 rfl rfl) on_il
theorem s_15_15 : S15 15 (ia_k 16 1) := sa_n (snd_iconst dX0_canBe_15 rfl (okI_c rfl) rfl) on_k
theorem s_15_16 : S15 16 (ia_k 18 99) := sa_n (snd_bipush dX0_canBe_16 (by decide) (okI_c rfl) rfl) on_k
theorem s_15_18 : S15 18 (ia_stat 21 3 2 3) := sk_S me_2 q138 dX0_canBe_18 rfl
theorem s_15_21 : S15 21 (ia_if k0e 24 37) := sa_b (sndB_if_eq dX0_canBe_21 rfl rfl) on_if
theorem s_15_24 : S15 24 (ia_il 25 3) := sa_n (snd_iload_n dX0_canBe_24 rfl rfl) on_il
theorem s_15_25 : S15 25 (ia_k 26 0) := sa_n (snd_iconst dX0_canBe_25 rfl (okI_c rfl) rfl) on_k
theorem s_15_26 : S15 26 (ia_k 27 2) := sa_n (snd_iconst dX0_canBe_26 rfl (okI_c rfl) rfl) on_k
theorem s_15_27 : S15 27 (ia_stat 30 3 2 3) := sk_S me_2 q138 dX0_canBe_27 rfl
theorem s_15_30 : S15 30 (ia_if k0e 33 37) := sa_b (sndB_if_eq dX0_canBe_30 rfl rfl) on_if
theorem s_15_33 : S15 33 (ia_k 34 1) := sa_n (snd_iconst dX0_canBe_33 rfl (okI_c rfl) rfl) on_k
theorem s_15_34 : S15 34 (ia_go 38) := sa_n (snd_goto dX0_canBe_34 rfl) on_go
theorem s_15_37 : S15 37 (ia_k 38 0) := sa_n (snd_iconst dX0_canBe_37 rfl (okI_c rfl) rfl) on_k
theorem s_15_38 : S15 38 (ia_retZ) := sa_t (st_retZ dX0_canBe_38 rfl) on_retZ
theorem sa_15 (pc : Nat) : S15 pc (cd_15 pc) := sa_c (sa_c (sa_c (sa_c (sa_l s_15_0) (sa_l s_15_1)) (sa_c (sa_l s_15_4) (sa_c (sa_l s_15_7) (sa_l s_15_8)))) (sa_c (sa_c (sa_l s_15_11) (sa_l s_15_14)) (sa_c (sa_l s_15_15) (sa_c (sa_l s_15_16) (sa_l s_15_18))))) (sa_c (sa_c (sa_c (sa_l s_15_21) (sa_l s_15_24)) (sa_c (sa_l s_15_25) (sa_c (sa_l s_15_26) (sa_l s_15_27)))) (sa_c (sa_c (sa_l s_15_30) (sa_l s_15_33)) (sa_c (sa_l s_15_34) (sa_c (sa_l s_15_37) (sa_l s_15_38)))))
abbrev S16 (pc : Nat) (x : XI) : Prop := SA "WeekFoot" cX0_counts 4 "counts" (some .int) pc x
theorem s_16_0 : S16 0 (ia_il 1 2) := sa_n (snd_iload_n dX0_counts_0 rfl rfl) on_il
theorem s_16_1 : S16 1 (ia_k 2 0) := sa_n (snd_iconst dX0_counts_1 rfl (okI_c rfl) rfl) on_k
theorem s_16_2 : S16 2 (ia_k 3 1) := sa_n (snd_iconst dX0_counts_2 rfl (okI_c rfl) rfl) on_k
theorem s_16_3 : S16 3 (ia_stat 6 3 2 3) := sk_S me_2 q138 dX0_counts_3 rfl
theorem s_16_6 : S16 6 (ia_if k0n 9 15) := sa_b (sndB_if_ne dX0_counts_6 rfl rfl) on_if
theorem s_16_9 : S16 9 (ia_al 10 0) := sa_n (snd_aload_n dX0_counts_9 rfl rfl) on_al
theorem s_16_10 : S16 10 (ia_k 11 (-1)) := sa_n (snd_iconst dX0_counts_10 rfl (okI_c rfl) rfl) on_k
theorem s_16_11 : S16 11 (ia_call 14 2 1 3 2) := sk_V me_3 q141 dX0_counts_11 rfl
theorem s_16_14 : S16 14 (ia_retI) := sa_t (st_retI dX0_counts_14 rfl) on_retI
theorem s_16_15 : S16 15 (ia_al 16 0) := sa_n (snd_aload_n dX0_counts_15 rfl rfl) on_al
theorem s_16_16 : S16 16 (ia_il 17 1) := sa_n (snd_iload_n dX0_counts_16 rfl rfl) on_il
theorem s_16_17 : S16 17 (ia_call 20 2 1 17 2) := sk_V me_17 q407 dX0_counts_17 rfl
theorem s_16_20 : S16 20 (ia_if k0n 23 30) := sa_b (sndB_if_ne dX0_counts_20 rfl rfl) on_if
theorem s_16_23 : S16 23 (ia_al 24 0) := sa_n (snd_aload_n dX0_counts_23 rfl rfl) on_al
theorem s_16_24 : S16 24 (ia_k 26 (-2)) := sa_n (snd_bipush dX0_counts_24 (by decide) (okI_c rfl) rfl) on_k
theorem s_16_26 : S16 26 (ia_call 29 2 1 3 2) := sk_V me_3 q141 dX0_counts_26 rfl
theorem s_16_29 : S16 29 (ia_retI) := sa_t (st_retI dX0_counts_29 rfl) on_retI
theorem s_16_30 : S16 30 (ia_al 31 0) := sa_n (snd_aload_n dX0_counts_30 rfl rfl) on_al
theorem s_16_31 : S16 31 (ia_gfR 34 1 4) := sa_n (snd_gfR ci_1 (k := 4) (lt_c rfl) dX0_counts_31 (Or.inl q883) (Or.inl rfl) (fun _ _ _ _ => rfl) rfl rfl) on_gfR
theorem s_16_34 : S16 34 (ia_gfR 37 3 4) := sa_n (snd_gfR ci_3 (k := 4) (lt_c rfl) dX0_counts_34 (Or.inr ⟨_, q202⟩) (Or.inl rfl) (fun _ _ _ _ => rfl) rfl rfl) on_gfR
theorem s_16_37 : S16 37 (ia_il 38 1) := sa_n (snd_iload_n dX0_counts_37 rfl rfl) on_il
theorem s_16_38 : S16 38 (ia_ldI 39 101) := sa_n (snd_zaload dX0_counts_38 rfl) on_ldI
theorem s_16_39 : S16 39 (ia_is 40 3) := sa_n (snd_istore_n dX0_counts_39 rfl (lt_c rfl) rfl) on_is
theorem s_16_40 : S16 40 (ia_al 41 0) := sa_n (snd_aload_n dX0_counts_40 rfl rfl) on_al
theorem s_16_41 : S16 41 (ia_gfR 44 1 4) := sa_n (snd_gfR ci_1 (k := 4) (lt_c rfl) dX0_counts_41 (Or.inl q883) (Or.inl rfl) (fun _ _ _ _ => rfl) rfl rfl) on_gfR
theorem s_16_44 : S16 44 (ia_gfR 47 3 4) := sa_n (snd_gfR ci_3 (k := 4) (lt_c rfl) dX0_counts_44 (Or.inr ⟨_, q202⟩) (Or.inl rfl) (fun _ _ _ _ => rfl) rfl rfl) on_gfR
theorem s_16_47 : S16 47 (ia_il 48 1) := sa_n (snd_iload_n dX0_counts_47 rfl rfl) on_il
theorem s_16_48 : S16 48 (ia_il 49 2) := sa_n (snd_iload_n dX0_counts_48 rfl rfl) on_il
theorem s_16_49 : S16 49 (ia_k 50 1) := sa_n (snd_iconst dX0_counts_49 rfl (okI_c rfl) rfl) on_k
theorem s_16_50 : S16 50 (ia_ic k2n 53 57) := sa_b (sndB_ic_ne dX0_counts_50 rfl rfl) on_ic
theorem s_16_53 : S16 53 (ia_k 54 1) := sa_n (snd_iconst dX0_counts_53 rfl (okI_c rfl) rfl) on_k
theorem s_16_54 : S16 54 (ia_go 58) := sa_n (snd_goto dX0_counts_54 rfl) on_go
theorem s_16_57 : S16 57 (ia_k 58 0) := sa_n (snd_iconst dX0_counts_57 rfl (okI_c rfl) rfl) on_k
theorem s_16_58 : S16 58 (ia_stZ 59) := sa_n (snd_zastore dX0_counts_58 rfl) on_stZ
theorem s_16_59 : S16 59 (ia_al 60 0) := sa_n (snd_aload_n dX0_counts_59 rfl rfl) on_al
theorem s_16_60 : S16 60 (ia_il 61 3) := sa_n (snd_iload_n dX0_counts_60 rfl rfl) on_il
theorem s_16_61 : S16 61 (ia_if k0e 64 68) := sa_b (sndB_if_eq dX0_counts_61 rfl rfl) on_if
theorem s_16_64 : S16 64 (ia_k 65 1) := sa_n (snd_iconst dX0_counts_64 rfl (okI_c rfl) rfl) on_k
theorem s_16_65 : S16 65 (ia_go 69) := sa_n (snd_goto dX0_counts_65 rfl) on_go
theorem s_16_68 : S16 68 (ia_k 69 0) := sa_n (snd_iconst dX0_counts_68 rfl (okI_c rfl) rfl) on_k
theorem s_16_69 : S16 69 (ia_call 72 2 1 6 2) := sk_V me_6 q309 dX0_counts_69 rfl
theorem s_16_72 : S16 72 (ia_retI) := sa_t (st_retI dX0_counts_72 rfl) on_retI
theorem sa_16 (pc : Nat) : S16 pc (cd_16 pc) := sa_c (sa_c (sa_c (sa_c (sa_c (sa_l s_16_0) (sa_l s_16_1)) (sa_c (sa_l s_16_2) (sa_c (sa_l s_16_3) (sa_l s_16_6)))) (sa_c (sa_c (sa_l s_16_9) (sa_l s_16_10)) (sa_c (sa_l s_16_11) (sa_c (sa_l s_16_14) (sa_l s_16_15))))) (sa_c (sa_c (sa_c (sa_l s_16_16) (sa_l s_16_17)) (sa_c (sa_l s_16_20) (sa_c (sa_l s_16_23) (sa_l s_16_24)))) (sa_c (sa_c (sa_l s_16_26) (sa_c (sa_l s_16_29) (sa_l s_16_30))) (sa_c (sa_l s_16_31) (sa_c (sa_l s_16_34) (sa_l s_16_37)))))) (sa_c (sa_c (sa_c (sa_c (sa_l s_16_38) (sa_l s_16_39)) (sa_c (sa_l s_16_40) (sa_c (sa_l s_16_41) (sa_l s_16_44)))) (sa_c (sa_c (sa_l s_16_47) (sa_l s_16_48)) (sa_c (sa_l s_16_49) (sa_c (sa_l s_16_50) (sa_l s_16_53))))) (sa_c (sa_c (sa_c (sa_l s_16_54) (sa_l s_16_57)) (sa_c (sa_l s_16_58) (sa_c (sa_l s_16_59) (sa_l s_16_60)))) (sa_c (sa_c (sa_l s_16_61) (sa_c (sa_l s_16_64) (sa_l s_16_65))) (sa_c (sa_l s_16_68) (sa_c (sa_l s_16_69) (sa_l s_16_72))))))
abbrev S17 (pc : Nat) (x : XI) : Prop := SA "WeekFoot" cX0_isEntry 2 "isEntry" (some .boolean) pc x
theorem s_17_0 : S17 0 (ia_il 1 1) := sa_n (snd_iload_n dX0_isEntry_0 rfl rfl) on_il
theorem s_17_1 : S17 1 (ia_k 2 0) := sa_n (snd_iconst dX0_isEntry_1 rfl (okI_c rfl) rfl) on_k
theorem s_17_2 : S17 2 (ia_al 3 0) := sa_n (snd_aload_n dX0_isEntry_2 rfl rfl) on_al
theorem s_17_3 : S17 3 (ia_gfR 6 1 4) := sa_n (snd_gfR ci_1 (k := 4) (lt_c rfl) dX0_isEntry_3 (Or.inl q883) (Or.inl rfl) (fun _ _ _ _ => rfl) rfl rfl) on_gfR
theorem s_17_6 : S17 6 (ia_gfR 9 3 5) := sa_n (snd_gfR ci_3 (k := 5) (lt_c rfl) dX0_isEntry_6 (Or.inr ⟨_, q207⟩) (Or.inl rfl) (fun _ _ _ _ => rfl) rfl rfl) on_gfR
theorem s_17_9 : S17 9 (ia_call 12 1 16 254 1) := sk_V me_254 q353 dX0_isEntry_9 rfl
theorem s_17_12 : S17 12 (ia_k 13 1) := sa_n (snd_iconst dX0_isEntry_12 rfl (okI_c rfl) rfl) on_k
theorem s_17_13 : S17 13 (ia_sub 14) := sa_n (snd_isub dX0_isEntry_13 rfl) on_sub
theorem s_17_14 : S17 14 (ia_stat 17 3 2 3) := sk_S me_2 q138 dX0_isEntry_14 rfl
theorem s_17_17 : S17 17 (ia_retZ) := sa_t (st_retZ dX0_isEntry_17 rfl) on_retZ
theorem sa_17 (pc : Nat) : S17 pc (cd_17 pc) := sa_c (sa_c (sa_c (sa_l s_17_0) (sa_l s_17_1)) (sa_c (sa_l s_17_2) (sa_c (sa_l s_17_3) (sa_l s_17_6)))) (sa_c (sa_c (sa_l s_17_9) (sa_l s_17_12)) (sa_c (sa_l s_17_13) (sa_c (sa_l s_17_14) (sa_l s_17_17))))
abbrev S18 (pc : Nat) (x : XI) : Prop := SA "WeekFoot" cX0_of 4 "of" (some .int) pc x
theorem s_18_0 : S18 0 (ia_al 1 0) := sa_n (snd_aload_n dX0_of_0 rfl rfl) on_al
theorem s_18_1 : S18 1 (ia_il 2 1) := sa_n (snd_iload_n dX0_of_1 rfl rfl) on_il
theorem s_18_2 : S18 2 (ia_call 5 2 1 17 2) := sk_V me_17 q407 dX0_of_2 rfl
theorem s_18_5 : S18 5 (ia_if k0n 8 10) := sa_b (sndB_if_ne dX0_of_5 rfl rfl) on_if
theorem s_18_8 : S18 8 (ia_k 9 (-1)) := sa_n (snd_iconst dX0_of_8 rfl (okI_c rfl) rfl) on_k
theorem s_18_9 : S18 9 (ia_retI) := sa_t (st_retI dX0_of_9 rfl) on_retI
theorem s_18_10 : S18 10 (ia_al 11 0) := sa_n (snd_aload_n dX0_of_10 rfl rfl) on_al
theorem s_18_11 : S18 11 (ia_gfR 14 1 4) := sa_n (snd_gfR ci_1 (k := 4) (lt_c rfl) dX0_of_11 (Or.inl q883) (Or.inl rfl) (fun _ _ _ _ => rfl) rfl rfl) on_gfR
theorem s_18_14 : S18 14 (ia_gfR 17 3 5) := sa_n (snd_gfR ci_3 (k := 5) (lt_c rfl) dX0_of_14 (Or.inr ⟨_, q207⟩) (Or.inl rfl) (fun _ _ _ _ => rfl) rfl rfl) on_gfR
theorem s_18_17 : S18 17 (ia_il 18 1) := sa_n (snd_iload_n dX0_of_17 rfl rfl) on_il
theorem s_18_18 : S18 18 (ia_call 21 2 16 258 2) := sk_V me_258 q415 dX0_of_18 rfl
theorem s_18_21 : S18 21 (ia_cast 24 [7]) := sa_n (snd_cast cs_Entry q357 dX0_of_21 rfl) on_cast
theorem s_18_24 : S18 24 (ia_as 25 3) := sa_n (snd_astore_n dX0_of_24 rfl (lt_c rfl) rfl) on_as
theorem s_18_25 : S18 25 (ia_il 26 2) := sa_n (snd_iload_n dX0_of_25 rfl rfl) on_il
theorem s_18_26 : S18 26 (ia_sw 0 [64, 69, 74, 79, 84, 102] 111) := sa_b (sndB_sw dX0_of_26 rfl rfl rfl (okI_c rfl) (okI_c rfl)) on_sw
theorem s_18_64 : S18 64 (ia_al 65 3) := sa_n (snd_aload_n dX0_of_64 rfl rfl) on_al
theorem s_18_65 : S18 65 (ia_gfI 68 7 0) := sa_n (snd_gfI ci_7 (k := 0) (lt_c rfl) dX0_of_65 (Or.inr ⟨_, q366⟩) (Or.inl rfl) (fun _ _ _ _ => rfl) rfl rfl) on_gfI
theorem s_18_68 : S18 68 (ia_retI) := sa_t (st_retI dX0_of_68 rfl) on_retI
theorem s_18_69 : S18 69 (ia_al 70 3) := sa_n (snd_aload_n dX0_of_69 rfl rfl) on_al
theorem s_18_70 : S18 70 (ia_gfI 73 7 1) := sa_n (snd_gfI ci_7 (k := 1) (lt_c rfl) dX0_of_70 (Or.inr ⟨_, q371⟩) (Or.inl rfl) (fun _ _ _ _ => rfl) rfl rfl) on_gfI
theorem s_18_73 : S18 73 (ia_retI) := sa_t (st_retI dX0_of_73 rfl) on_retI
theorem s_18_74 : S18 74 (ia_al 75 3) := sa_n (snd_aload_n dX0_of_74 rfl rfl) on_al
theorem s_18_75 : S18 75 (ia_gfI 78 7 2) := sa_n (snd_gfI ci_7 (k := 2) (lt_c rfl) dX0_of_75 (Or.inr ⟨_, q373⟩) (Or.inl rfl) (fun _ _ _ _ => rfl) rfl rfl) on_gfI
theorem s_18_78 : S18 78 (ia_retI) := sa_t (st_retI dX0_of_78 rfl) on_retI
theorem s_18_79 : S18 79 (ia_al 80 3) := sa_n (snd_aload_n dX0_of_79 rfl rfl) on_al
theorem s_18_80 : S18 80 (ia_gfI 83 7 3) := sa_n (snd_gfI ci_7 (k := 3) (lt_c rfl) dX0_of_80 (Or.inr ⟨_, q376⟩) (Or.inl rfl) (fun _ _ _ _ => rfl) rfl rfl) on_gfI
theorem s_18_83 : S18 83 (ia_retI) := sa_t (st_retI dX0_of_83 rfl) on_retI
theorem s_18_84 : S18 84 (ia_al 85 0) := sa_n (snd_aload_n dX0_of_84 rfl rfl) on_al
theorem s_18_85 : S18 85 (ia_gfR 88 1 4) := sa_n (snd_gfR ci_1 (k := 4) (lt_c rfl) dX0_of_85 (Or.inl q883) (Or.inl rfl) (fun _ _ _ _ => rfl) rfl rfl) on_gfR
theorem s_18_88 : S18 88 (ia_gfR 91 3 4) := sa_n (snd_gfR ci_3 (k := 4) (lt_c rfl) dX0_of_88 (Or.inr ⟨_, q202⟩) (Or.inl rfl) (fun _ _ _ _ => rfl) rfl rfl) on_gfR
theorem s_18_91 : S18 91 (ia_il 92 1) := sa_n (snd_iload_n dX0_of_91 rfl rfl) on_il
theorem s_18_92 : S18 92 (ia_ldI 93 101) := sa_n (snd_zaload dX0_of_92 rfl) on_ldI
theorem s_18_93 : S18 93 (ia_if k0e 96 100) := sa_b (sndB_if_eq dX0_of_93 rfl rfl) on_if
theorem s_18_96 : S18 96 (ia_k 97 1) := sa_n (snd_iconst dX0_of_96 rfl (okI_c rfl) rfl) on_k
theorem s_18_97 : S18 97 (ia_go 101) := sa_n (snd_goto dX0_of_97 rfl) on_go
theorem s_18_100 : S18 100 (ia_k 101 0) := sa_n (snd_iconst dX0_of_100 rfl (okI_c rfl) rfl) on_k
theorem s_18_101 : S18 101 (ia_retI) := sa_t (st_retI dX0_of_101 rfl) on_retI
theorem s_18_102 : S18 102 (ia_al 103 0) := sa_n (snd_aload_n dX0_of_102 rfl rfl) on_al
theorem s_18_103 : S18 103 (ia_gfR 106 1 4) := sa_n (snd_gfR ci_1 (k := 4) (lt_c rfl) dX0_of_103 (Or.inl q883) (Or.inl rfl) (fun _ _ _ _ => rfl) rfl rfl) on_gfR
theorem s_18_106 : S18 106 (ia_al 107 3) := sa_n (snd_aload_n dX0_of_106 rfl rfl) on_al
theorem s_18_107 : S18 107 (ia_call 110 2 3 86 2) := sk_V me_86 q429 dX0_of_107 rfl
theorem s_18_110 : S18 110 (ia_retI) := sa_t (st_retI dX0_of_110 rfl) on_retI
theorem s_18_111 : S18 111 (ia_k 112 (-1)) := sa_n (snd_iconst dX0_of_111 rfl (okI_c rfl) rfl) on_k
theorem s_18_112 : S18 112 (ia_retI) := sa_t (st_retI dX0_of_112 rfl) on_retI
theorem sa_18 (pc : Nat) : S18 pc (cd_18 pc) := sa_c (sa_c (sa_c (sa_c (sa_c (sa_l s_18_0) (sa_l s_18_1)) (sa_c (sa_l s_18_2) (sa_c (sa_l s_18_5) (sa_l s_18_8)))) (sa_c (sa_c (sa_l s_18_9) (sa_c (sa_l s_18_10) (sa_l s_18_11))) (sa_c (sa_l s_18_14) (sa_c (sa_l s_18_17) (sa_l s_18_18))))) (sa_c (sa_c (sa_c (sa_l s_18_21) (sa_l s_18_24)) (sa_c (sa_l s_18_25) (sa_c (sa_l s_18_26) (sa_l s_18_64)))) (sa_c (sa_c (sa_l s_18_65) (sa_c (sa_l s_18_68) (sa_l s_18_69))) (sa_c (sa_l s_18_70) (sa_c (sa_l s_18_73) (sa_l s_18_74)))))) (sa_c (sa_c (sa_c (sa_c (sa_l s_18_75) (sa_l s_18_78)) (sa_c (sa_l s_18_79) (sa_c (sa_l s_18_80) (sa_l s_18_83)))) (sa_c (sa_c (sa_l s_18_84) (sa_c (sa_l s_18_85) (sa_l s_18_88))) (sa_c (sa_l s_18_91) (sa_c (sa_l s_18_92) (sa_l s_18_93))))) (sa_c (sa_c (sa_c (sa_l s_18_96) (sa_l s_18_97)) (sa_c (sa_l s_18_100) (sa_c (sa_l s_18_101) (sa_l s_18_102)))) (sa_c (sa_c (sa_l s_18_103) (sa_c (sa_l s_18_106) (sa_l s_18_107))) (sa_c (sa_l s_18_110) (sa_c (sa_l s_18_111) (sa_l s_18_112))))))
abbrev S19 (pc : Nat) (x : XI) : Prop := SA "WeekFoot" cX0_feed 6 "feed" (some .int) pc x
theorem s_19_0 : S19 0 (ia_al 1 0) := sa_n (snd_aload_n dX0_feed_0 rfl rfl) on_al
theorem s_19_1 : S19 1 (ia_gfI 4 1 7) := sa_n (snd_gfI ci_1 (k := 7) (lt_c rfl) dX0_feed_1 (Or.inl q886) (Or.inl rfl) (fun _ _ _ _ => rfl) rfl rfl) on_gfI
theorem s_19_4 : S19 4 (ia_k 6 20) := sa_n (snd_bipush dX0_feed_4 (by decide) (okI_c rfl) rfl) on_k
theorem s_19_6 : S19 6 (ia_add 7) := sa_n (snd_iadd dX0_feed_6 rfl) on_add
theorem s_19_7 : S19 7 (ia_k 10 400) := sa_n (snd_sipush dX0_feed_7 (by decide) (okI_c rfl) rfl) on_k
theorem s_19_10 : S19 10 (ia_ic k2L 13 15) := sa_b (sndB_ic_le dX0_feed_10 rfl rfl) on_ic
theorem s_19_13 : S19 13 (ia_k 14 (-1)) := sa_n (snd_iconst dX0_feed_13 rfl (okI_c rfl) rfl) on_k
theorem s_19_14 : S19 14 (ia_retI) := sa_t (st_retI dX0_feed_14 rfl) on_retI
theorem s_19_15 : S19 15 (ia_al 16 0) := sa_n (snd_aload_n dX0_feed_15 rfl rfl) on_al
theorem s_19_16 : S19 16 (ia_il 17 1) := sa_n (snd_iload_n dX0_feed_16 rfl rfl) on_il
theorem s_19_17 : S19 17 (ia_call 20 2 1 20 3) := sk_V me_20 q437 dX0_feed_17 rfl
theorem s_19_20 : S19 20 (ia_al 21 0) := sa_n (snd_aload_n dX0_feed_20 rfl rfl) on_al
theorem s_19_21 : S19 21 (ia_il 22 2) := sa_n (snd_iload_n dX0_feed_21 rfl rfl) on_il
theorem s_19_22 : S19 22 (ia_call 25 2 1 20 3) := sk_V me_20 q437 dX0_feed_22 rfl
theorem s_19_25 : S19 25 (ia_al 26 0) := sa_n (snd_aload_n dX0_feed_25 rfl rfl) on_al
theorem s_19_26 : S19 26 (ia_il 27 3) := sa_n (snd_iload_n dX0_feed_26 rfl rfl) on_il
theorem s_19_27 : S19 27 (ia_call 30 2 1 20 3) := sk_V me_20 q437 dX0_feed_27 rfl
theorem s_19_30 : S19 30 (ia_al 31 0) := sa_n (snd_aload_n dX0_feed_30 rfl rfl) on_al
theorem s_19_31 : S19 31 (ia_il 33 4) := sa_n (snd_iload dX0_feed_31 rfl) on_il
theorem s_19_33 : S19 33 (ia_call 36 2 1 20 3) := sk_V me_20 q437 dX0_feed_33 rfl
theorem s_19_36 : S19 36 (ia_al 37 0) := sa_n (snd_aload_n dX0_feed_36 rfl rfl) on_al
theorem s_19_37 : S19 37 (ia_il 39 5) := sa_n (snd_iload dX0_feed_37 rfl) on_il
theorem s_19_39 : S19 39 (ia_call 42 2 1 20 3) := sk_V me_20 q437 dX0_feed_39 rfl
theorem s_19_42 : S19 42 (ia_al 43 0) := sa_n (snd_aload_n dX0_feed_42 rfl rfl) on_al
theorem s_19_43 : S19 43 (ia_gfI 46 1 7) := sa_n (snd_gfI ci_1 (k := 7) (lt_c rfl) dX0_feed_43 (Or.inl q886) (Or.inl rfl) (fun _ _ _ _ => rfl) rfl rfl) on_gfI
theorem s_19_46 : S19 46 (ia_retI) := sa_t (st_retI dX0_feed_46 rfl) on_retI
theorem sa_19 (pc : Nat) : S19 pc (cd_19 pc) := sa_c (sa_c (sa_c (sa_c (sa_l s_19_0) (sa_c (sa_l s_19_1) (sa_l s_19_4))) (sa_c (sa_l s_19_6) (sa_c (sa_l s_19_7) (sa_l s_19_10)))) (sa_c (sa_c (sa_l s_19_13) (sa_c (sa_l s_19_14) (sa_l s_19_15))) (sa_c (sa_c (sa_l s_19_16) (sa_l s_19_17)) (sa_c (sa_l s_19_20) (sa_l s_19_21))))) (sa_c (sa_c (sa_c (sa_l s_19_22) (sa_c (sa_l s_19_25) (sa_l s_19_26))) (sa_c (sa_l s_19_27) (sa_c (sa_l s_19_30) (sa_l s_19_31)))) (sa_c (sa_c (sa_l s_19_33) (sa_c (sa_l s_19_36) (sa_l s_19_37))) (sa_c (sa_c (sa_l s_19_39) (sa_l s_19_42)) (sa_c (sa_l s_19_43) (sa_l s_19_46)))))
abbrev S20 (pc : Nat) (x : XI) : Prop := SA "WeekFoot" cX0_four 3 "four" (none) pc x
theorem s_20_0 : S20 0 (ia_k 2 24) := sa_n (snd_bipush dX0_four_0 (by decide) (okI_c rfl) rfl) on_k
theorem s_20_2 : S20 2 (ia_is 3 2) := sa_n (snd_istore_n dX0_four_2 rfl (lt_c rfl) rfl) on_is
theorem s_20_3 : S20 3 (ia_keep [0, 1, 2] (ia_il 4 2)) := sa_nk (snd_iload_n dX0_four_3 rfl rfl) on_il
theorem s_20_4 : S20 4 (ia_if k0l 7 36) := sa_b (sndB_if_lt dX0_four_4 rfl rfl) on_if
theorem s_20_7 : S20 7 (ia_al 8 0) := sa_n (snd_aload_n dX0_four_7 rfl rfl) on_al
theorem s_20_8 : S20 8 (ia_gfR 11 1 6) := sa_n (snd_gfR ci_1 (k := 6) (lt_c rfl) dX0_four_8 (Or.inl q885) (Or.inl rfl) (fun _ _ _ _ => rfl) rfl rfl) on_gfR
theorem s_20_11 : S20 11 (ia_al 12 0) := sa_n (snd_aload_n dX0_four_11 rfl rfl) on_al
theorem s_20_12 : S20 12 (ia_gfI 15 1 7) := sa_n (snd_gfI ci_1 (k := 7) (lt_c rfl) dX0_four_12 (Or.inl q886) (Or.inl rfl) (fun _ _ _ _ => rfl) rfl rfl) on_gfI
theorem s_20_15 : S20 15 (ia_il 16 1) := sa_n (snd_iload_n dX0_four_15 rfl rfl) on_il
theorem s_20_16 : S20 16 (ia_il 17 2) := sa_n (snd_iload_n dX0_four_16 rfl rfl) on_il
theorem s_20_17 : S20 17 (ia_bit bShr 18) := sa_n (snd_bShr dX0_four_17 rfl) on_bit
theorem s_20_18 : S20 18 (ia_i2b 19) := sa_n (snd_i2b dX0_four_18 rfl) on_i2b
theorem s_20_19 : S20 19 (ia_stB 20) := sa_n (snd_bastore dX0_four_19 rfl) on_stB
theorem s_20_20 : S20 20 (ia_al 21 0) := sa_n (snd_aload_n dX0_four_20 rfl rfl) on_al
theorem s_20_21 : S20 21 (ia_dup 22) := sa_n (snd_dup dX0_four_21 rfl) on_dup
theorem s_20_22 : S20 22 (ia_gfI 25 1 7) := sa_n (snd_gfI ci_1 (k := 7) (lt_c rfl) dX0_four_22 (Or.inl q886) (Or.inl rfl) (fun _ _ _ _ => rfl) rfl rfl) on_gfI
theorem s_20_25 : S20 25 (ia_k 26 1) := sa_n (snd_iconst dX0_four_25 rfl (okI_c rfl) rfl) on_k
theorem s_20_26 : S20 26 (ia_add 27) := sa_n (snd_iadd dX0_four_26 rfl) on_add
theorem s_20_27 : S20 27 (ia_pfI 30 1 7) := sa_n (snd_pfI ci_1 (k := 7) (lt_c rfl) dX0_four_27 q886 (Or.inl rfl) (Or.inl rfl) (rfl) rfl rfl) on_pfI
theorem s_20_30 : S20 30 (ia_inc 33 2 (-8)) := sa_n (snd_iinc dX0_four_30 rfl (lt_c rfl) rfl) on_inc
theorem s_20_33 : S20 33 (ia_go 3) := sa_n (snd_goto dX0_four_33 rfl) on_go
theorem s_20_36 : S20 36 (ia_ret0) := sa_t (st_ret0 dX0_four_36 rfl) on_ret0
theorem sa_20 (pc : Nat) : S20 pc (cd_20 pc) := sa_c (sa_c (sa_c (sa_c (sa_l s_20_0) (sa_l s_20_2)) (sa_c (sa_l s_20_3) (sa_c (sa_l s_20_4) (sa_l s_20_7)))) (sa_c (sa_c (sa_l s_20_8) (sa_c (sa_l s_20_11) (sa_l s_20_12))) (sa_c (sa_l s_20_15) (sa_c (sa_l s_20_16) (sa_l s_20_17))))) (sa_c (sa_c (sa_c (sa_l s_20_18) (sa_l s_20_19)) (sa_c (sa_l s_20_20) (sa_c (sa_l s_20_21) (sa_l s_20_22)))) (sa_c (sa_c (sa_l s_20_25) (sa_c (sa_l s_20_26) (sa_l s_20_27))) (sa_c (sa_l s_20_30) (sa_c (sa_l s_20_33) (sa_l s_20_36)))))
abbrev S21 (pc : Nat) (x : XI) : Prop := SA "WeekFoot" cX0_end 2 "end" (some .int) pc x
theorem s_21_0 : S21 0 (ia_il 1 1) := sa_n (snd_iload_n dX0_end_0 rfl rfl) on_il
theorem s_21_1 : S21 1 (ia_if k0l 4 12) := sa_b (sndB_if_lt dX0_end_1 rfl rfl) on_if
theorem s_21_4 : S21 4 (ia_il 5 1) := sa_n (snd_iload_n dX0_end_4 rfl rfl) on_il
theorem s_21_5 : S21 5 (ia_al 6 0) := sa_n (snd_aload_n dX0_end_5 rfl rfl) on_al
theorem s_21_6 : S21 6 (ia_gfI 9 1 7) := sa_n (snd_gfI ci_1 (k := 7) (lt_c rfl) dX0_end_6 (Or.inl q886) (Or.inl rfl) (fun _ _ _ _ => rfl) rfl rfl) on_gfI
theorem s_21_9 : S21 9 (ia_ic k2L 12 14) := sa_b (sndB_ic_le dX0_end_9 rfl rfl) on_ic
theorem s_21_12 : S21 12 (ia_k 13 (-1)) := sa_n (snd_iconst dX0_end_12 rfl (okI_c rfl) rfl) on_k
theorem s_21_13 : S21 13 (ia_retI) := sa_t (st_retI dX0_end_13 rfl) on_retI
theorem s_21_14 : S21 14 (ia_al 15 0) := sa_n (snd_aload_n dX0_end_14 rfl rfl) on_al
theorem s_21_15 : S21 15 (ia_il 16 1) := sa_n (snd_iload_n dX0_end_15 rfl rfl) on_il
theorem s_21_16 : S21 16 (ia_pfI 19 1 7) := sa_n (snd_pfI ci_1 (k := 7) (lt_c rfl) dX0_end_16 q886 (Or.inl rfl) (Or.inl rfl) (rfl) rfl rfl) on_pfI
theorem s_21_19 : S21 19 (ia_il 20 1) := sa_n (snd_iload_n dX0_end_19 rfl rfl) on_il
theorem s_21_20 : S21 20 (ia_retI) := sa_t (st_retI dX0_end_20 rfl) on_retI
theorem sa_21 (pc : Nat) : S21 pc (cd_21 pc) := sa_c (sa_c (sa_c (sa_l s_21_0) (sa_c (sa_l s_21_1) (sa_l s_21_4))) (sa_c (sa_l s_21_5) (sa_c (sa_l s_21_6) (sa_l s_21_9)))) (sa_c (sa_c (sa_l s_21_12) (sa_c (sa_l s_21_13) (sa_l s_21_14))) (sa_c (sa_c (sa_l s_21_15) (sa_l s_21_16)) (sa_c (sa_l s_21_19) (sa_l s_21_20))))
abbrev S22 (pc : Nat) (x : XI) : Prop := SA "WeekFoot" cX0_row 5 "row" (some .int) pc x
theorem s_22_0 : S22 0 (ia_al 1 0) := sa_n (snd_aload_n dX0_row_0 rfl rfl) on_al
theorem s_22_1 : S22 1 (ia_gfI 4 1 7) := sa_n (snd_gfI ci_1 (k := 7) (lt_c rfl) dX0_row_1 (Or.inl q886) (Or.inl rfl) (fun _ _ _ _ => rfl) rfl rfl) on_gfI
theorem s_22_4 : S22 4 (ia_is 5 1) := sa_n (snd_istore_n dX0_row_4 rfl (lt_c rfl) rfl) on_is
theorem s_22_5 : S22 5 (ia_al 6 0) := sa_n (snd_aload_n dX0_row_5 rfl rfl) on_al
theorem s_22_6 : S22 6 (ia_k 7 0) := sa_n (snd_iconst dX0_row_6 rfl (okI_c rfl) rfl) on_k
theorem s_22_7 : S22 7 (ia_pfI 10 1 7) := sa_n (snd_pfI ci_1 (k := 7) (lt_c rfl) dX0_row_7 q886 (Or.inl rfl) (Or.inl rfl) (rfl) rfl rfl) on_pfI
theorem s_22_10 : S22 10 (ia_il 11 1) := sa_n (snd_iload_n dX0_row_10 rfl rfl) on_il
theorem s_22_11 : S22 11 (ia_if k0n 14 21) := sa_b (sndB_if_ne dX0_row_11 rfl rfl) on_if
theorem s_22_14 : S22 14 (ia_al 15 0) := sa_n (snd_aload_n dX0_row_14 rfl rfl) on_al
theorem s_22_15 : S22 15 (ia_k 17 (-6)) := sa_n (snd_bipush dX0_row_15 (by decide) (okI_c rfl) rfl) on_k
theorem s_22_17 : S22 17 (ia_call 20 2 1 3 2) := sk_V me_3 q141 dX0_row_17 rfl
theorem s_22_20 : S22 20 (ia_retI) := sa_t (st_retI dX0_row_20 rfl) on_retI
theorem s_22_21 : S22 21 (ia_k 22 0) := sa_n (snd_iconst dX0_row_21 rfl (okI_c rfl) rfl) on_k
theorem s_22_22 : S22 22 (ia_is 23 2) := sa_n (snd_istore_n dX0_row_22 rfl (lt_c rfl) rfl) on_is
theorem s_22_23 : S22 23 (ia_al 24 0) := sa_n (snd_aload_n dX0_row_23 rfl rfl) on_al
theorem s_22_24 : S22 24 (ia_il 25 1) := sa_n (snd_iload_n dX0_row_24 rfl rfl) on_il
theorem s_22_25 : S22 25 (ia_k 26 4) := sa_n (snd_iconst dX0_row_25 rfl (okI_c rfl) rfl) on_k
theorem s_22_26 : S22 26 (ia_rem 27) := sa_n (snd_irem dX0_row_26 rfl) on_rem
theorem s_22_27 : S22 27 (ia_if k0n 30 34) := sa_b (sndB_if_ne dX0_row_27 rfl rfl) on_if
theorem s_22_30 : S22 30 (ia_k 31 0) := sa_n (snd_iconst dX0_row_30 rfl (okI_c rfl) rfl) on_k
theorem s_22_31 : S22 31 (ia_go 35) := sa_n (snd_goto dX0_row_31 rfl) on_go
theorem s_22_34 : S22 34 (ia_k 35 1) := sa_n (snd_iconst dX0_row_34 rfl (okI_c rfl) rfl) on_k
theorem s_22_35 : S22 35 (ia_pfI 38 1 9) := sa_n (snd_pfI ci_1 (k := 9) (lt_c rfl) dX0_row_35 q888 (Or.inl rfl) (Or.inl rfl) (rfl) rfl rfl) on_pfI
theorem s_22_38 : S22 38 (ia_k 39 0) := sa_n (snd_iconst dX0_row_38 rfl (okI_c rfl) rfl) on_k
theorem s_22_39 : S22 39 (ia_is 40 3) := sa_n (snd_istore_n dX0_row_39 rfl (lt_c rfl) rfl) on_is
theorem s_22_40 : S22 40 (ia_keep [0, 1, 2, 3] (ia_il 41 3)) := sa_nk (snd_iload_n dX0_row_40 rfl rfl) on_il
theorem s_22_41 : S22 41 (ia_k 42 4) := sa_n (snd_iconst dX0_row_41 rfl (okI_c rfl) rfl) on_k
theorem s_22_42 : S22 42 (ia_add 43) := sa_n (snd_iadd dX0_row_42 rfl) on_add
theorem s_22_43 : S22 43 (ia_il 44 1) := sa_n (snd_iload_n dX0_row_43 rfl rfl) on_il
theorem s_22_44 : S22 44 (ia_ic k2G 47 192) := sa_b (sndB_ic_gt dX0_row_44 rfl rfl) on_ic
theorem s_22_47 : S22 47 (ia_al 48 0) := sa_n (snd_aload_n dX0_row_47 rfl rfl) on_al
theorem s_22_48 : S22 48 (ia_gfR 51 1 6) := sa_n (snd_gfR ci_1 (k := 6) (lt_c rfl) dX0_row_48 (Or.inl q885) (Or.inl rfl) (fun _ _ _ _ => rfl) rfl rfl) on_gfR
theorem s_22_51 : S22 51 (ia_il 52 3) := sa_n (snd_iload_n dX0_row_51 rfl rfl) on_il
theorem s_22_52 : S22 52 (ia_ldI 53 102) := sa_n (snd_baload dX0_row_52 rfl) on_ldI
theorem s_22_53 : S22 53 (ia_al 54 0) := sa_n (snd_aload_n dX0_row_53 rfl rfl) on_al
theorem s_22_54 : S22 54 (ia_gfR 57 1 6) := sa_n (snd_gfR ci_1 (k := 6) (lt_c rfl) dX0_row_54 (Or.inl q885) (Or.inl rfl) (fun _ _ _ _ => rfl) rfl rfl) on_gfR
theorem s_22_57 : S22 57 (ia_il 58 3) := sa_n (snd_iload_n dX0_row_57 rfl rfl) on_il
theorem s_22_58 : S22 58 (ia_k 59 1) := sa_n (snd_iconst dX0_row_58 rfl (okI_c rfl) rfl) on_k
theorem s_22_59 : S22 59 (ia_add 60) := sa_n (snd_iadd dX0_row_59 rfl) on_add
theorem s_22_60 : S22 60 (ia_ldI 61 102) := sa_n (snd_baload dX0_row_60 rfl) on_ldI
theorem s_22_61 : S22 61 (ia_al 62 0) := sa_n (snd_aload_n dX0_row_61 rfl rfl) on_al
theorem s_22_62 : S22 62 (ia_gfR 65 1 6) := sa_n (snd_gfR ci_1 (k := 6) (lt_c rfl) dX0_row_62 (Or.inl q885) (Or.inl rfl) (fun _ _ _ _ => rfl) rfl rfl) on_gfR
theorem s_22_65 : S22 65 (ia_il 66 3) := sa_n (snd_iload_n dX0_row_65 rfl rfl) on_il
theorem s_22_66 : S22 66 (ia_k 67 2) := sa_n (snd_iconst dX0_row_66 rfl (okI_c rfl) rfl) on_k
theorem s_22_67 : S22 67 (ia_add 68) := sa_n (snd_iadd dX0_row_67 rfl) on_add
theorem s_22_68 : S22 68 (ia_ldI 69 102) := sa_n (snd_baload dX0_row_68 rfl) on_ldI
theorem s_22_69 : S22 69 (ia_al 70 0) := sa_n (snd_aload_n dX0_row_69 rfl rfl) on_al
theorem s_22_70 : S22 70 (ia_gfR 73 1 6) := sa_n (snd_gfR ci_1 (k := 6) (lt_c rfl) dX0_row_70 (Or.inl q885) (Or.inl rfl) (fun _ _ _ _ => rfl) rfl rfl) on_gfR
theorem s_22_73 : S22 73 (ia_il 74 3) := sa_n (snd_iload_n dX0_row_73 rfl rfl) on_il
theorem s_22_74 : S22 74 (ia_k 75 3) := sa_n (snd_iconst dX0_row_74 rfl (okI_c rfl) rfl) on_k
theorem s_22_75 : S22 75 (ia_add 76) := sa_n (snd_iadd dX0_row_75 rfl) on_add
theorem s_22_76 : S22 76 (ia_ldI 77 102) := sa_n (snd_baload dX0_row_76 rfl) on_ldI
theorem s_22_77 : S22 77 (ia_stat 80 4 15 4) := sk_S me_15 q350 dX0_row_77 rfl
theorem s_22_80 : S22 80 (ia_if k0e 83 102) := sa_b (sndB_if_eq dX0_row_80 rfl rfl) on_if
theorem s_22_83 : S22 83 (ia_al 84 0) := sa_n (snd_aload_n dX0_row_83 rfl rfl) on_al
theorem s_22_84 : S22 84 (ia_gfR 87 1 4) := sa_n (snd_gfR ci_1 (k := 4) (lt_c rfl) dX0_row_84 (Or.inl q883) (Or.inl rfl) (fun _ _ _ _ => rfl) rfl rfl) on_gfR
theorem s_22_87 : S22 87 (ia_gfR 90 3 5) := sa_n (snd_gfR ci_3 (k := 5) (lt_c rfl) dX0_row_87 (Or.inr ⟨_, q207⟩) (Or.inl rfl) (fun _ _ _ _ => rfl) rfl rfl) on_gfR
theorem s_22_90 : S22 90 (ia_call 93 1 16 254 1) := sk_V me_254 q353 dX0_row_90 rfl
theorem s_22_93 : S22 93 (ia_k 95 24) := sa_n (snd_bipush dX0_row_93 (by decide) (okI_c rfl) rfl) on_k
theorem s_22_95 : S22 95 (ia_ic k2g 98 102) := sa_b (sndB_ic_ge dX0_row_95 rfl rfl) on_ic
theorem s_22_98 : S22 98 (ia_k 99 1) := sa_n (snd_iconst dX0_row_98 rfl (okI_c rfl) rfl) on_k
theorem s_22_99 : S22 99 (ia_go 103) := sa_n (snd_goto dX0_row_99 rfl) on_go
theorem s_22_102 : S22 102 (ia_k 103 0) := sa_n (snd_iconst dX0_row_102 rfl (okI_c rfl) rfl) on_k
theorem s_22_103 : S22 103 (ia_is 105 4) := sa_n (snd_istore dX0_row_103 (lt_c rfl) rfl) on_is
theorem s_22_105 : S22 105 (ia_il 107 4) := sa_n (snd_iload dX0_row_105 rfl) on_il
theorem s_22_107 : S22 107 (ia_if k0e 110 154) := sa_b (sndB_if_eq dX0_row_107 rfl rfl) on_if
theorem s_22_110 : S22 110 (ia_al 111 0) := sa_n (snd_aload_n dX0_row_110 rfl rfl) on_al
theorem s_22_111 : S22 111 (ia_gfR 114 1 4) := sa_n (snd_gfR ci_1 (k := 4) (lt_c rfl) dX0_row_111 (Or.inl q883) (Or.inl rfl) (fun _ _ _ _ => rfl) rfl rfl) on_gfR
theorem s_22_114 : S22 114 (ia_new 117 7 4) := sa_n (snd_new ci_7 okt_7 dX0_row_114 q357 q358 q113 rfl) on_new
theorem s_22_117 : S22 117 (ia_dup 118) := sa_n (snd_dup dX0_row_117 rfl) on_dup
theorem s_22_118 : S22 118 (ia_al 119 0) := sa_n (snd_aload_n dX0_row_118 rfl rfl) on_al
theorem s_22_119 : S22 119 (ia_gfR 122 1 6) := sa_n (snd_gfR ci_1 (k := 6) (lt_c rfl) dX0_row_119 (Or.inl q885) (Or.inl rfl) (fun _ _ _ _ => rfl) rfl rfl) on_gfR
theorem s_22_122 : S22 122 (ia_il 123 3) := sa_n (snd_iload_n dX0_row_122 rfl rfl) on_il
theorem s_22_123 : S22 123 (ia_ldI 124 102) := sa_n (snd_baload dX0_row_123 rfl) on_ldI
theorem s_22_124 : S22 124 (ia_al 125 0) := sa_n (snd_aload_n dX0_row_124 rfl rfl) on_al
theorem s_22_125 : S22 125 (ia_gfR 128 1 6) := sa_n (snd_gfR ci_1 (k := 6) (lt_c rfl) dX0_row_125 (Or.inl q885) (Or.inl rfl) (fun _ _ _ _ => rfl) rfl rfl) on_gfR
theorem s_22_128 : S22 128 (ia_il 129 3) := sa_n (snd_iload_n dX0_row_128 rfl rfl) on_il
theorem s_22_129 : S22 129 (ia_k 130 1) := sa_n (snd_iconst dX0_row_129 rfl (okI_c rfl) rfl) on_k
theorem s_22_130 : S22 130 (ia_add 131) := sa_n (snd_iadd dX0_row_130 rfl) on_add
theorem s_22_131 : S22 131 (ia_ldI 132 102) := sa_n (snd_baload dX0_row_131 rfl) on_ldI
theorem s_22_132 : S22 132 (ia_al 133 0) := sa_n (snd_aload_n dX0_row_132 rfl rfl) on_al
theorem s_22_133 : S22 133 (ia_gfR 136 1 6) := sa_n (snd_gfR ci_1 (k := 6) (lt_c rfl) dX0_row_133 (Or.inl q885) (Or.inl rfl) (fun _ _ _ _ => rfl) rfl rfl) on_gfR
theorem s_22_136 : S22 136 (ia_il 137 3) := sa_n (snd_iload_n dX0_row_136 rfl rfl) on_il
theorem s_22_137 : S22 137 (ia_k 138 2) := sa_n (snd_iconst dX0_row_137 rfl (okI_c rfl) rfl) on_k
theorem s_22_138 : S22 138 (ia_add 139) := sa_n (snd_iadd dX0_row_138 rfl) on_add
theorem s_22_139 : S22 139 (ia_ldI 140 102) := sa_n (snd_baload dX0_row_139 rfl) on_ldI
theorem s_22_140 : S22 140 (ia_al 141 0) := sa_n (snd_aload_n dX0_row_140 rfl rfl) on_al
theorem s_22_141 : S22 141 (ia_gfR 144 1 6) := sa_n (snd_gfR ci_1 (k := 6) (lt_c rfl) dX0_row_141 (Or.inl q885) (Or.inl rfl) (fun _ _ _ _ => rfl) rfl rfl) on_gfR
theorem s_22_144 : S22 144 (ia_il 145 3) := sa_n (snd_iload_n dX0_row_144 rfl rfl) on_il
theorem s_22_145 : S22 145 (ia_k 146 3) := sa_n (snd_iconst dX0_row_145 rfl (okI_c rfl) rfl) on_k
theorem s_22_146 : S22 146 (ia_add 147) := sa_n (snd_iadd dX0_row_146 rfl) on_add
theorem s_22_147 : S22 147 (ia_ldI 148 102) := sa_n (snd_baload dX0_row_147 rfl) on_ldI
theorem s_22_148 : S22 148 (ia_call 151 5 7 106 5) := sk_I me_106 (by decide) rfl q359 dX0_row_148 rfl
theorem s_22_151 : S22 151 (ia_call 154 2 3 85 2) := sk_V me_85 q386 dX0_row_151 rfl
theorem s_22_154 : S22 154 (ia_il 155 2) := sa_n (snd_iload_n dX0_row_154 rfl rfl) on_il
theorem s_22_155 : S22 155 (ia_il 157 4) := sa_n (snd_iload dX0_row_155 rfl) on_il
theorem s_22_157 : S22 157 (ia_if k0e 160 164) := sa_b (sndB_if_eq dX0_row_157 rfl rfl) on_if
theorem s_22_160 : S22 160 (ia_k 161 1) := sa_n (snd_iconst dX0_row_160 rfl (okI_c rfl) rfl) on_k
theorem s_22_161 : S22 161 (ia_go 165) := sa_n (snd_goto dX0_row_161 rfl) on_go
theorem s_22_164 : S22 164 (ia_k 165 0) := sa_n (snd_iconst dX0_row_164 rfl (okI_c rfl) rfl) on_k
theorem s_22_165 : S22 165 (ia_add 166) := sa_n (snd_iadd dX0_row_165 rfl) on_add
theorem s_22_166 : S22 166 (ia_is 167 2) := sa_n (snd_istore_n dX0_row_166 rfl (lt_c rfl) rfl) on_is
theorem s_22_167 : S22 167 (ia_al 168 0) := sa_n (snd_aload_n dX0_row_167 rfl rfl) on_al
theorem s_22_168 : S22 168 (ia_dup 169) := sa_n (snd_dup dX0_row_168 rfl) on_dup
theorem s_22_169 : S22 169 (ia_gfI 172 1 9) := sa_n (snd_gfI ci_1 (k := 9) (lt_c rfl) dX0_row_169 (Or.inl q888) (Or.inl rfl) (fun _ _ _ _ => rfl) rfl rfl) on_gfI
theorem s_22_172 : S22 172 (ia_il 174 4) := sa_n (snd_iload dX0_row_172 rfl) on_il
theorem s_22_174 : S22 174 (ia_if k0e 177 181) := sa_b (sndB_if_eq dX0_row_174 rfl rfl) on_if
theorem s_22_177 : S22 177 (ia_k 178 0) := sa_n (snd_iconst dX0_row_177 rfl (okI_c rfl) rfl) on_k
theorem s_22_178 : S22 178 (ia_go 182) := sa_n (snd_goto dX0_row_178 rfl) on_go
theorem s_22_181 : S22 181 (ia_k 182 1) := sa_n (snd_iconst dX0_row_181 rfl (okI_c rfl) rfl) on_k
theorem s_22_182 : S22 182 (ia_add 183) := sa_n (snd_iadd dX0_row_182 rfl) on_add
theorem s_22_183 : S22 183 (ia_pfI 186 1 9) := sa_n (snd_pfI ci_1 (k := 9) (lt_c rfl) dX0_row_183 q888 (Or.inl rfl) (Or.inl rfl) (rfl) rfl rfl) on_pfI
theorem s_22_186 : S22 186 (ia_inc 189 3 4) := sa_n (snd_iinc dX0_row_186 rfl (lt_c rfl) rfl) on_inc
theorem s_22_189 : S22 189 (ia_go 40) := sa_n (snd_goto dX0_row_189 rfl) on_go
theorem s_22_192 : S22 192 (ia_al 193 0) := sa_n (snd_aload_n dX0_row_192 rfl rfl) on_al
theorem s_22_193 : S22 193 (ia_il 194 2) := sa_n (snd_iload_n dX0_row_193 rfl rfl) on_il
theorem s_22_194 : S22 194 (ia_call 197 2 1 6 2) := sk_V me_6 q309 dX0_row_194 rfl
theorem s_22_197 : S22 197 (ia_retI) := sa_t (st_retI dX0_row_197 rfl) on_retI
theorem sa_22_0 (pc : Nat) : S22 pc (cd_22_0 pc) := sa_c (sa_c (sa_c (sa_c (sa_c (sa_l s_22_0) (sa_c (sa_l s_22_1) (sa_l s_22_4))) (sa_c (sa_c (sa_l s_22_5) (sa_l s_22_6)) (sa_c (sa_l s_22_7) (sa_l s_22_10)))) (sa_c (sa_c (sa_l s_22_11) (sa_c (sa_l s_22_14) (sa_l s_22_15))) (sa_c (sa_c (sa_l s_22_17) (sa_l s_22_20)) (sa_c (sa_l s_22_21) (sa_l s_22_22))))) (sa_c (sa_c (sa_c (sa_l s_22_23) (sa_c (sa_l s_22_24) (sa_l s_22_25))) (sa_c (sa_c (sa_l s_22_26) (sa_l s_22_27)) (sa_c (sa_l s_22_30) (sa_l s_22_31)))) (sa_c (sa_c (sa_c (sa_l s_22_34) (sa_l s_22_35)) (sa_c (sa_l s_22_38) (sa_l s_22_39))) (sa_c (sa_c (sa_l s_22_40) (sa_l s_22_41)) (sa_c (sa_l s_22_42) (sa_l s_22_43)))))) (sa_c (sa_c (sa_c (sa_c (sa_l s_22_44) (sa_c (sa_l s_22_47) (sa_l s_22_48))) (sa_c (sa_c (sa_l s_22_51) (sa_l s_22_52)) (sa_c (sa_l s_22_53) (sa_l s_22_54)))) (sa_c (sa_c (sa_c (sa_l s_22_57) (sa_l s_22_58)) (sa_c (sa_l s_22_59) (sa_l s_22_60))) (sa_c (sa_c (sa_l s_22_61) (sa_l s_22_62)) (sa_c (sa_l s_22_65) (sa_l s_22_66))))) (sa_c (sa_c (sa_c (sa_l s_22_67) (sa_c (sa_l s_22_68) (sa_l s_22_69))) (sa_c (sa_c (sa_l s_22_70) (sa_l s_22_73)) (sa_c (sa_l s_22_74) (sa_l s_22_75)))) (sa_c (sa_c (sa_c (sa_l s_22_76) (sa_l s_22_77)) (sa_c (sa_l s_22_80) (sa_l s_22_83))) (sa_c (sa_c (sa_l s_22_84) (sa_l s_22_87)) (sa_c (sa_l s_22_90) (sa_l s_22_93))))))
theorem sa_22_1 (pc : Nat) : S22 pc (cd_22_1 pc) := sa_c (sa_c (sa_c (sa_c (sa_c (sa_l s_22_95) (sa_c (sa_l s_22_98) (sa_l s_22_99))) (sa_c (sa_c (sa_l s_22_102) (sa_l s_22_103)) (sa_c (sa_l s_22_105) (sa_l s_22_107)))) (sa_c (sa_c (sa_l s_22_110) (sa_c (sa_l s_22_111) (sa_l s_22_114))) (sa_c (sa_c (sa_l s_22_117) (sa_l s_22_118)) (sa_c (sa_l s_22_119) (sa_l s_22_122))))) (sa_c (sa_c (sa_c (sa_l s_22_123) (sa_c (sa_l s_22_124) (sa_l s_22_125))) (sa_c (sa_c (sa_l s_22_128) (sa_l s_22_129)) (sa_c (sa_l s_22_130) (sa_l s_22_131)))) (sa_c (sa_c (sa_c (sa_l s_22_132) (sa_l s_22_133)) (sa_c (sa_l s_22_136) (sa_l s_22_137))) (sa_c (sa_c (sa_l s_22_138) (sa_l s_22_139)) (sa_c (sa_l s_22_140) (sa_l s_22_141)))))) (sa_c (sa_c (sa_c (sa_c (sa_l s_22_144) (sa_c (sa_l s_22_145) (sa_l s_22_146))) (sa_c (sa_c (sa_l s_22_147) (sa_l s_22_148)) (sa_c (sa_l s_22_151) (sa_l s_22_154)))) (sa_c (sa_c (sa_c (sa_l s_22_155) (sa_l s_22_157)) (sa_c (sa_l s_22_160) (sa_l s_22_161))) (sa_c (sa_c (sa_l s_22_164) (sa_l s_22_165)) (sa_c (sa_l s_22_166) (sa_l s_22_167))))) (sa_c (sa_c (sa_c (sa_l s_22_168) (sa_c (sa_l s_22_169) (sa_l s_22_172))) (sa_c (sa_c (sa_l s_22_174) (sa_l s_22_177)) (sa_c (sa_l s_22_178) (sa_l s_22_181)))) (sa_c (sa_c (sa_c (sa_l s_22_182) (sa_l s_22_183)) (sa_c (sa_l s_22_186) (sa_l s_22_189))) (sa_c (sa_c (sa_l s_22_192) (sa_l s_22_193)) (sa_c (sa_l s_22_194) (sa_l s_22_197))))))
theorem sa_22 (pc : Nat) : S22 pc (cd_22 pc) := sa_c (sa_22_0 pc) (sa_22_1 pc)
abbrev S23 (pc : Nat) (x : XI) : Prop := SA "WeekFoot" cX0_blurred 1 "blurred" (some .int) pc x
theorem s_23_0 : S23 0 (ia_al 1 0) := sa_n (snd_aload_n dX0_blurred_0 rfl rfl) on_al
theorem s_23_1 : S23 1 (ia_gfI 4 1 9) := sa_n (snd_gfI ci_1 (k := 9) (lt_c rfl) dX0_blurred_1 (Or.inl q888) (Or.inl rfl) (fun _ _ _ _ => rfl) rfl rfl) on_gfI
theorem s_23_4 : S23 4 (ia_retI) := sa_t (st_retI dX0_blurred_4 rfl) on_retI
theorem sa_23 (pc : Nat) : S23 pc (cd_23 pc) := sa_c (sa_l s_23_0) (sa_c (sa_l s_23_1) (sa_l s_23_4))
abbrev S24 (pc : Nat) (x : XI) : Prop := SA "WeekFoot" cX0_book 4 "book" (some .int) pc x
theorem s_24_0 : S24 0 (ia_al 1 0) := sa_n (snd_aload_n dX0_book_0 rfl rfl) on_al
theorem s_24_1 : S24 1 (ia_gfI 4 1 7) := sa_n (snd_gfI ci_1 (k := 7) (lt_c rfl) dX0_book_1 (Or.inl q886) (Or.inl rfl) (fun _ _ _ _ => rfl) rfl rfl) on_gfI
theorem s_24_4 : S24 4 (ia_is 5 1) := sa_n (snd_istore_n dX0_book_4 rfl (lt_c rfl) rfl) on_is
theorem s_24_5 : S24 5 (ia_al 6 0) := sa_n (snd_aload_n dX0_book_5 rfl rfl) on_al
theorem s_24_6 : S24 6 (ia_k 7 0) := sa_n (snd_iconst dX0_book_6 rfl (okI_c rfl) rfl) on_k
theorem s_24_7 : S24 7 (ia_pfI 10 1 7) := sa_n (snd_pfI ci_1 (k := 7) (lt_c rfl) dX0_book_7 q886 (Or.inl rfl) (Or.inl rfl) (rfl) rfl rfl) on_pfI
theorem s_24_10 : S24 10 (ia_new 13 9 8) := sa_n (snd_new ci_9 okt_9 dX0_book_10 q458 q459 q121 rfl) on_new
theorem s_24_13 : S24 13 (ia_dup 14) := sa_n (snd_dup dX0_book_13 rfl) on_dup
theorem s_24_14 : S24 14 (ia_al 15 0) := sa_n (snd_aload_n dX0_book_14 rfl rfl) on_al
theorem s_24_15 : S24 15 (ia_gfR 18 1 6) := sa_n (snd_gfR ci_1 (k := 6) (lt_c rfl) dX0_book_15 (Or.inl q885) (Or.inl rfl) (fun _ _ _ _ => rfl) rfl rfl) on_gfR
theorem s_24_18 : S24 18 (ia_il 19 1) := sa_n (snd_iload_n dX0_book_18 rfl rfl) on_il
theorem s_24_19 : S24 19 (ia_al 20 0) := sa_n (snd_aload_n dX0_book_19 rfl rfl) on_al
theorem s_24_20 : S24 20 (ia_gfR 23 1 4) := sa_n (snd_gfR ci_1 (k := 4) (lt_c rfl) dX0_book_20 (Or.inl q883) (Or.inl rfl) (fun _ _ _ _ => rfl) rfl rfl) on_gfR
theorem s_24_23 : S24 23 (ia_call 26 4 9 224 5) := sk_I me_224 (by decide) rfl q460 dX0_book_23 rfl
theorem s_24_26 : S24 26 (ia_as 27 2) := sa_n (snd_astore_n dX0_book_26 rfl (lt_c rfl) rfl) on_as
theorem s_24_27 : S24 27 (ia_al 28 2) := sa_n (snd_aload_n dX0_book_27 rfl rfl) on_al
theorem s_24_28 : S24 28 (ia_call 31 1 9 225 1) := sk_V me_225 q493 dX0_book_28 rfl
theorem s_24_31 : S24 31 (ia_go 50) := sa_n (snd_goto dX0_book_31 rfl) on_go
theorem s_24_34 : S24 34 (ia_as 35 3) := sa_n (snd_astore_n dX0_book_34 rfl (lt_c rfl) rfl) on_as
theorem s_24_35 : S24 35 (ia_al 36 0) := sa_n (snd_aload_n dX0_book_35 rfl rfl) on_al
theorem s_24_36 : S24 36 (ia_al 37 3) := sa_n (snd_aload_n dX0_book_36 rfl rfl) on_al
theorem s_24_37 : S24 37 (ia_gfI 40 10 6) := sa_n (snd_gfI ci_10 (k := 6) (lt_c rfl) dX0_book_37 (Or.inr ⟨_, q615⟩) (Or.inl rfl) (fun _ _ _ _ => rfl) rfl rfl) on_gfI
theorem s_24_40 : S24 40 (ia_pfI 43 1 8) := sa_n (snd_pfI ci_1 (k := 8) (lt_c rfl) dX0_book_40 q887 (Or.inl rfl) (Or.inl rfl) (rfl) rfl rfl) on_pfI
theorem s_24_43 : S24 43 (ia_al 44 0) := sa_n (snd_aload_n dX0_book_43 rfl rfl) on_al
theorem s_24_44 : S24 44 (ia_k 46 (-6)) := sa_n (snd_bipush dX0_book_44 (by decide) (okI_c rfl) rfl) on_k
theorem s_24_46 : S24 46 (ia_call 49 2 1 3 2) := sk_V me_3 q141 dX0_book_46 rfl
theorem s_24_49 : S24 49 (ia_retI) := sa_t (st_retI dX0_book_49 rfl) on_retI
theorem s_24_50 : S24 50 (ia_al 51 0) := sa_n (snd_aload_n dX0_book_50 rfl rfl) on_al
theorem s_24_51 : S24 51 (ia_k 52 (-1)) := sa_n (snd_iconst dX0_book_51 rfl (okI_c rfl) rfl) on_k
theorem s_24_52 : S24 52 (ia_pfI 55 1 8) := sa_n (snd_pfI ci_1 (k := 8) (lt_c rfl) dX0_book_52 q887 (Or.inl rfl) (Or.inl rfl) (rfl) rfl rfl) on_pfI
theorem s_24_55 : S24 55 (ia_k 56 0) := sa_n (snd_iconst dX0_book_55 rfl (okI_c rfl) rfl) on_k
theorem s_24_56 : S24 56 (ia_is 57 3) := sa_n (snd_istore_n dX0_book_56 rfl (lt_c rfl) rfl) on_is
theorem s_24_57 : S24 57 (ia_keep [0, 2, 3] (ia_il 58 3)) := sa_nk (snd_iload_n dX0_book_57 rfl rfl) on_il
theorem s_24_58 : S24 58 (ia_al 59 2) := sa_n (snd_aload_n dX0_book_58 rfl rfl) on_al
theorem s_24_59 : S24 59 (ia_gfR 62 9 2) := sa_n (snd_gfR ci_9 (k := 2) (lt_c rfl) dX0_book_59 (Or.inr ⟨_, q470⟩) (Or.inl rfl) (fun _ _ _ _ => rfl) rfl rfl) on_gfR
theorem s_24_62 : S24 62 (ia_call 65 1 16 254 1) := sk_V me_254 q353 dX0_book_62 rfl
theorem s_24_65 : S24 65 (ia_ic k2g 68 92) := sa_b (sndB_ic_ge dX0_book_65 rfl rfl) on_ic
theorem s_24_68 : S24 68 (ia_al 69 2) := sa_n (snd_aload_n dX0_book_68 rfl rfl) on_al
theorem s_24_69 : S24 69 (ia_gfR 72 9 2) := sa_n (snd_gfR ci_9 (k := 2) (lt_c rfl) dX0_book_69 (Or.inr ⟨_, q470⟩) (Or.inl rfl) (fun _ _ _ _ => rfl) rfl rfl) on_gfR
theorem s_24_72 : S24 72 (ia_il 73 3) := sa_n (snd_iload_n dX0_book_72 rfl rfl) on_il
theorem s_24_73 : S24 73 (ia_call 76 2 16 258 2) := sk_V me_258 q415 dX0_book_73 rfl
theorem s_24_76 : S24 76 (ia_cast 79 [12, 13, 14, 15]) := sa_n (snd_cast cs_Clause q728 dX0_book_76 rfl) on_cast
theorem s_24_79 : S24 79 (ia_al 80 0) := sa_n (snd_aload_n dX0_book_79 rfl rfl) on_al
theorem s_24_80 : S24 80 (ia_gfR 83 1 4) := sa_n (snd_gfR ci_1 (k := 4) (lt_c rfl) dX0_book_80 (Or.inl q883) (Or.inl rfl) (fun _ _ _ _ => rfl) rfl rfl) on_gfR
theorem s_24_83 : S24 83 (ia_virt 86 2 2 [(12, 240), (13, 242), (14, 244), (15, 246)]) := sa_virt dX0_book_83 rfl
theorem s_24_86 : S24 86 (ia_inc 89 3 1) := sa_n (snd_iinc dX0_book_86 rfl (lt_c rfl) rfl) on_inc
theorem s_24_89 : S24 89 (ia_go 57) := sa_n (snd_goto dX0_book_89 rfl) on_go
theorem s_24_92 : S24 92 (ia_al 93 0) := sa_n (snd_aload_n dX0_book_92 rfl rfl) on_al
theorem s_24_93 : S24 93 (ia_al 94 2) := sa_n (snd_aload_n dX0_book_93 rfl rfl) on_al
theorem s_24_94 : S24 94 (ia_gfR 97 9 2) := sa_n (snd_gfR ci_9 (k := 2) (lt_c rfl) dX0_book_94 (Or.inr ⟨_, q470⟩) (Or.inl rfl) (fun _ _ _ _ => rfl) rfl rfl) on_gfR
theorem s_24_97 : S24 97 (ia_call 100 1 16 254 1) := sk_V me_254 q353 dX0_book_97 rfl
theorem s_24_100 : S24 100 (ia_call 103 2 1 6 2) := sk_V me_6 q309 dX0_book_100 rfl
theorem s_24_103 : S24 103 (ia_retI) := sa_t (st_retI dX0_book_103 rfl) on_retI
theorem sa_24 (pc : Nat) : S24 pc (cd_24 pc) := sa_c (sa_c (sa_c (sa_c (sa_c (sa_l s_24_0) (sa_c (sa_l s_24_1) (sa_l s_24_4))) (sa_c (sa_l s_24_5) (sa_c (sa_l s_24_6) (sa_l s_24_7)))) (sa_c (sa_c (sa_l s_24_10) (sa_c (sa_l s_24_13) (sa_l s_24_14))) (sa_c (sa_c (sa_l s_24_15) (sa_l s_24_18)) (sa_c (sa_l s_24_19) (sa_l s_24_20))))) (sa_c (sa_c (sa_c (sa_l s_24_23) (sa_c (sa_l s_24_26) (sa_l s_24_27))) (sa_c (sa_l s_24_28) (sa_c (sa_l s_24_31) (sa_l s_24_34)))) (sa_c (sa_c (sa_l s_24_35) (sa_c (sa_l s_24_36) (sa_l s_24_37))) (sa_c (sa_c (sa_l s_24_40) (sa_l s_24_43)) (sa_c (sa_l s_24_44) (sa_l s_24_46)))))) (sa_c (sa_c (sa_c (sa_c (sa_l s_24_49) (sa_c (sa_l s_24_50) (sa_l s_24_51))) (sa_c (sa_l s_24_52) (sa_c (sa_l s_24_55) (sa_l s_24_56)))) (sa_c (sa_c (sa_l s_24_57) (sa_c (sa_l s_24_58) (sa_l s_24_59))) (sa_c (sa_c (sa_l s_24_62) (sa_l s_24_65)) (sa_c (sa_l s_24_68) (sa_l s_24_69))))) (sa_c (sa_c (sa_c (sa_l s_24_72) (sa_c (sa_l s_24_73) (sa_l s_24_76))) (sa_c (sa_c (sa_l s_24_79) (sa_l s_24_80)) (sa_c (sa_l s_24_83) (sa_l s_24_86)))) (sa_c (sa_c (sa_l s_24_89) (sa_c (sa_l s_24_92) (sa_l s_24_93))) (sa_c (sa_c (sa_l s_24_94) (sa_l s_24_97)) (sa_c (sa_l s_24_100) (sa_l s_24_103))))))
abbrev S25 (pc : Nat) (x : XI) : Prop := SA "WeekFoot" cX0_fault 1 "fault" (some .int) pc x
theorem s_25_0 : S25 0 (ia_al 1 0) := sa_n (snd_aload_n dX0_fault_0 rfl rfl) on_al
theorem s_25_1 : S25 1 (ia_gfI 4 1 8) := sa_n (snd_gfI ci_1 (k := 8) (lt_c rfl) dX0_fault_1 (Or.inl q887) (Or.inl rfl) (fun _ _ _ _ => rfl) rfl rfl) on_gfI
theorem s_25_4 : S25 4 (ia_retI) := sa_t (st_retI dX0_fault_4 rfl) on_retI
theorem sa_25 (pc : Nat) : S25 pc (cd_25 pc) := sa_c (sa_l s_25_0) (sa_c (sa_l s_25_1) (sa_l s_25_4))
abbrev S26 (pc : Nat) (x : XI) : Prop := SA "WeekFoot" cX0_init 2 "<init>" (none) pc x
theorem s_26_0 : S26 0 (ia_al 1 0) := sa_n (snd_aload_n dX0_init_0 rfl rfl) on_al
theorem s_26_1 : S26 1 (ia_pop1 4) := sa_n (snd_obj q758 q152 q153 dX0_init_1 rfl) on_pop1
theorem s_26_4 : S26 4 (ia_al 5 0) := sa_n (snd_aload_n dX0_init_4 rfl rfl) on_al
theorem s_26_5 : S26 5 (ia_k 7 7) := sa_n (snd_bipush dX0_init_5 (by decide) (okI_c rfl) rfl) on_k
theorem s_26_7 : S26 7 (ia_newa 9 100) := sa_n (snd_newI q182 dX0_init_7 rfl) on_newa
theorem s_26_9 : S26 9 (ia_pfR 12 1 1) := sa_n (snd_pfR ci_1 (k := 1) (lt_c rfl) dX0_init_9 q875 (Or.inl rfl) (Or.inr ⟨rfl, rfl⟩) (Or.inr ⟨_, rfl⟩) rfl rfl) on_pfR
theorem s_26_12 : S26 12 (ia_al 13 0) := sa_n (snd_aload_n dX0_init_12 rfl rfl) on_al
theorem s_26_13 : S26 13 (ia_new 16 2 1) := sa_n (snd_new ci_2 okt_2 dX0_init_13 q759 q760 q105 rfl) on_new
theorem s_26_16 : S26 16 (ia_dup 17) := sa_n (snd_dup dX0_init_16 rfl) on_dup
theorem s_26_17 : S26 17 (ia_call 20 1 2 75 1) := sk_IN me_75 (by decide) rfl q761 dX0_init_17 rfl
theorem s_26_20 : S26 20 (ia_pfR 23 1 2) := sa_n (snd_pfR ci_1 (k := 2) (lt_c rfl) dX0_init_20 q876 (Or.inl rfl) (Or.inr ⟨rfl, rfl⟩) (Or.inl ⟨_, rfl⟩) rfl rfl) on_pfR
theorem s_26_23 : S26 23 (ia_al 24 0) := sa_n (snd_aload_n dX0_init_23 rfl rfl) on_al
theorem s_26_24 : S26 24 (ia_new 27 2 1) := sa_n (snd_new ci_2 okt_2 dX0_init_24 q759 q760 q105 rfl) on_new
theorem s_26_27 : S26 27 (ia_dup 28) := sa_n (snd_dup dX0_init_27 rfl) on_dup
theorem s_26_28 : S26 28 (ia_call 31 1 2 75 1) := sk_IN me_75 (by decide) rfl q761 dX0_init_28 rfl
theorem s_26_31 : S26 31 (ia_pfR 34 1 3) := sa_n (snd_pfR ci_1 (k := 3) (lt_c rfl) dX0_init_31 q878 (Or.inl rfl) (Or.inr ⟨rfl, rfl⟩) (Or.inl ⟨_, rfl⟩) rfl rfl) on_pfR
theorem s_26_34 : S26 34 (ia_al 35 0) := sa_n (snd_aload_n dX0_init_34 rfl rfl) on_al
theorem s_26_35 : S26 35 (ia_new 38 3 7) := sa_n (snd_new ci_3 okt_3 dX0_init_35 q146 q147 q106 rfl) on_new
theorem s_26_38 : S26 38 (ia_dup 39) := sa_n (snd_dup dX0_init_38 rfl) on_dup
theorem s_26_39 : S26 39 (ia_call 42 1 3 81 2) := sk_I me_81 (by decide) rfl q148 dX0_init_39 rfl
theorem s_26_42 : S26 42 (ia_pfR 45 1 4) := sa_n (snd_pfR ci_1 (k := 4) (lt_c rfl) dX0_init_42 q883 (Or.inl rfl) (Or.inr ⟨rfl, rfl⟩) (Or.inl ⟨_, rfl⟩) rfl rfl) on_pfR
theorem s_26_45 : S26 45 (ia_al 46 0) := sa_n (snd_aload_n dX0_init_45 rfl rfl) on_al
theorem s_26_46 : S26 46 (ia_k 47 2) := sa_n (snd_iconst dX0_init_46 rfl (okI_c rfl) rfl) on_k
theorem s_26_47 : S26 47 (ia_newa 50 105) := sa_n (snd_anew (by decide) q146 dX0_init_47 rfl) on_newa
theorem s_26_50 : S26 50 (ia_pfR 53 1 5) := sa_n (snd_pfR ci_1 (k := 5) (lt_c rfl) dX0_init_50 q884 (Or.inl rfl) (Or.inr ⟨rfl, rfl⟩) (Or.inr ⟨_, rfl⟩) rfl rfl) on_pfR
theorem s_26_53 : S26 53 (ia_al 54 0) := sa_n (snd_aload_n dX0_init_53 rfl rfl) on_al
theorem s_26_54 : S26 54 (ia_k 57 400) := sa_n (snd_sipush dX0_init_54 (by decide) (okI_c rfl) rfl) on_k
theorem s_26_57 : S26 57 (ia_newa 59 102) := sa_n (snd_newB q631 dX0_init_57 rfl) on_newa
theorem s_26_59 : S26 59 (ia_pfR 62 1 6) := sa_n (snd_pfR ci_1 (k := 6) (lt_c rfl) dX0_init_59 q885 (Or.inl rfl) (Or.inr ⟨rfl, rfl⟩) (Or.inr ⟨_, rfl⟩) rfl rfl) on_pfR
theorem s_26_62 : S26 62 (ia_al 63 0) := sa_n (snd_aload_n dX0_init_62 rfl rfl) on_al
theorem s_26_63 : S26 63 (ia_k 64 (-1)) := sa_n (snd_iconst dX0_init_63 rfl (okI_c rfl) rfl) on_k
theorem s_26_64 : S26 64 (ia_pfI 67 1 8) := sa_n (snd_pfI ci_1 (k := 8) (lt_c rfl) dX0_init_64 q887 (Or.inl rfl) (Or.inl rfl) (rfl) rfl rfl) on_pfI
theorem s_26_67 : S26 67 (ia_al 68 0) := sa_n (snd_aload_n dX0_init_67 rfl rfl) on_al
theorem s_26_68 : S26 68 (ia_new 71 4 9) := sa_n (snd_new ci_4 okt_4 dX0_init_68 q771 q772 q110 rfl) on_new
theorem s_26_71 : S26 71 (ia_dup 72) := sa_n (snd_dup dX0_init_71 rfl) on_dup
theorem s_26_72 : S26 72 (ia_al 73 0) := sa_n (snd_aload_n dX0_init_72 rfl rfl) on_al
theorem s_26_73 : S26 73 (ia_call 76 2 4 87 3) := sk_I me_87 (by decide) rfl q773 dX0_init_73 rfl
theorem s_26_76 : S26 76 (ia_pfR 79 1 11) := sa_n (snd_pfR ci_1 (k := 11) (lt_c rfl) dX0_init_76 q892 (Or.inl rfl) (Or.inr ⟨rfl, rfl⟩) (Or.inl ⟨_, rfl⟩) rfl rfl) on_pfR
theorem s_26_79 : S26 79 (ia_al 80 0) := sa_n (snd_aload_n dX0_init_79 rfl rfl) on_al
theorem s_26_80 : S26 80 (ia_new 83 4 9) := sa_n (snd_new ci_4 okt_4 dX0_init_80 q771 q772 q110 rfl) on_new
theorem s_26_83 : S26 83 (ia_dup 84) := sa_n (snd_dup dX0_init_83 rfl) on_dup
theorem s_26_84 : S26 84 (ia_al 85 0) := sa_n (snd_aload_n dX0_init_84 rfl rfl) on_al
theorem s_26_85 : S26 85 (ia_call 88 2 4 87 3) := sk_I me_87 (by decide) rfl q773 dX0_init_85 rfl
theorem s_26_88 : S26 88 (ia_pfR 91 1 12) := sa_n (snd_pfR ci_1 (k := 12) (lt_c rfl) dX0_init_88 q894 (Or.inl rfl) (Or.inr ⟨rfl, rfl⟩) (Or.inl ⟨_, rfl⟩) rfl rfl) on_pfR
theorem s_26_91 : S26 91 (ia_al 92 0) := sa_n (snd_aload_n dX0_init_91 rfl rfl) on_al
theorem s_26_92 : S26 92 (ia_k 95 300) := sa_n (snd_sipush dX0_init_92 (by decide) (okI_c rfl) rfl) on_k
theorem s_26_95 : S26 95 (ia_newa 98 107) := sa_n (snd_anew (by decide) q357 dX0_init_95 rfl) on_newa
theorem s_26_98 : S26 98 (ia_pfR 101 1 13) := sa_n (snd_pfR ci_1 (k := 13) (lt_c rfl) dX0_init_98 q895 (Or.inl rfl) (Or.inr ⟨rfl, rfl⟩) (Or.inr ⟨_, rfl⟩) rfl rfl) on_pfR
theorem s_26_101 : S26 101 (ia_al 102 0) := sa_n (snd_aload_n dX0_init_101 rfl rfl) on_al
theorem s_26_102 : S26 102 (ia_new 105 2 1) := sa_n (snd_new ci_2 okt_2 dX0_init_102 q759 q760 q105 rfl) on_new
theorem s_26_105 : S26 105 (ia_dup 106) := sa_n (snd_dup dX0_init_105 rfl) on_dup
theorem s_26_106 : S26 106 (ia_call 109 1 2 75 1) := sk_IN me_75 (by decide) rfl q761 dX0_init_106 rfl
theorem s_26_109 : S26 109 (ia_pfR 112 1 14) := sa_n (snd_pfR ci_1 (k := 14) (lt_c rfl) dX0_init_109 q896 (Or.inl rfl) (Or.inr ⟨rfl, rfl⟩) (Or.inl ⟨_, rfl⟩) rfl rfl) on_pfR
theorem s_26_112 : S26 112 (ia_al 113 0) := sa_n (snd_aload_n dX0_init_112 rfl rfl) on_al
theorem s_26_113 : S26 113 (ia_new 116 2 1) := sa_n (snd_new ci_2 okt_2 dX0_init_113 q759 q760 q105 rfl) on_new
theorem s_26_116 : S26 116 (ia_dup 117) := sa_n (snd_dup dX0_init_116 rfl) on_dup
theorem s_26_117 : S26 117 (ia_call 120 1 2 75 1) := sk_IN me_75 (by decide) rfl q761 dX0_init_117 rfl
theorem s_26_120 : S26 120 (ia_pfR 123 1 15) := sa_n (snd_pfR ci_1 (k := 15) (lt_c rfl) dX0_init_120 q897 (Or.inl rfl) (Or.inr ⟨rfl, rfl⟩) (Or.inl ⟨_, rfl⟩) rfl rfl) on_pfR
theorem s_26_123 : S26 123 (ia_al 124 0) := sa_n (snd_aload_n dX0_init_123 rfl rfl) on_al
theorem s_26_124 : S26 124 (ia_new 127 2 1) := sa_n (snd_new ci_2 okt_2 dX0_init_124 q759 q760 q105 rfl) on_new
theorem s_26_127 : S26 127 (ia_dup 128) := sa_n (snd_dup dX0_init_127 rfl) on_dup
theorem s_26_128 : S26 128 (ia_call 131 1 2 75 1) := sk_IN me_75 (by decide) rfl q761 dX0_init_128 rfl
theorem s_26_131 : S26 131 (ia_pfR 134 1 16) := sa_n (snd_pfR ci_1 (k := 16) (lt_c rfl) dX0_init_131 q898 (Or.inl rfl) (Or.inr ⟨rfl, rfl⟩) (Or.inl ⟨_, rfl⟩) rfl rfl) on_pfR
theorem s_26_134 : S26 134 (ia_al 135 0) := sa_n (snd_aload_n dX0_init_134 rfl rfl) on_al
theorem s_26_135 : S26 135 (ia_new 138 2 1) := sa_n (snd_new ci_2 okt_2 dX0_init_135 q759 q760 q105 rfl) on_new
theorem s_26_138 : S26 138 (ia_dup 139) := sa_n (snd_dup dX0_init_138 rfl) on_dup
theorem s_26_139 : S26 139 (ia_call 142 1 2 75 1) := sk_IN me_75 (by decide) rfl q761 dX0_init_139 rfl
theorem s_26_142 : S26 142 (ia_pfR 145 1 17) := sa_n (snd_pfR ci_1 (k := 17) (lt_c rfl) dX0_init_142 q899 (Or.inl rfl) (Or.inr ⟨rfl, rfl⟩) (Or.inl ⟨_, rfl⟩) rfl rfl) on_pfR
theorem s_26_145 : S26 145 (ia_al 146 0) := sa_n (snd_aload_n dX0_init_145 rfl rfl) on_al
theorem s_26_146 : S26 146 (ia_k 148 16) := sa_n (snd_bipush dX0_init_146 (by decide) (okI_c rfl) rfl) on_k
theorem s_26_148 : S26 148 (ia_newa 150 100) := sa_n (snd_newI q182 dX0_init_148 rfl) on_newa
theorem s_26_150 : S26 150 (ia_pfR 153 1 21) := sa_n (snd_pfR ci_1 (k := 21) (lt_c rfl) dX0_init_150 q903 (Or.inl rfl) (Or.inr ⟨rfl, rfl⟩) (Or.inr ⟨_, rfl⟩) rfl rfl) on_pfR
theorem s_26_153 : S26 153 (ia_al 154 0) := sa_n (snd_aload_n dX0_init_153 rfl rfl) on_al
theorem s_26_154 : S26 154 (ia_k 155 (-1)) := sa_n (snd_iconst dX0_init_154 rfl (okI_c rfl) rfl) on_k
theorem s_26_155 : S26 155 (ia_pfI 158 1 22) := sa_n (snd_pfI ci_1 (k := 22) (lt_c rfl) dX0_init_155 q904 (Or.inl rfl) (Or.inl rfl) (rfl) rfl rfl) on_pfI
theorem s_26_158 : S26 158 (ia_al 159 0) := sa_n (snd_aload_n dX0_init_158 rfl rfl) on_al
theorem s_26_159 : S26 159 (ia_new 162 5 7) := sa_n (snd_new ci_5 okt_5 dX0_init_159 q813 q814 q111 rfl) on_new
theorem s_26_162 : S26 162 (ia_dup 163) := sa_n (snd_dup dX0_init_162 rfl) on_dup
theorem s_26_163 : S26 163 (ia_al 164 0) := sa_n (snd_aload_n dX0_init_163 rfl rfl) on_al
theorem s_26_164 : S26 164 (ia_call 167 2 5 97 2) := sk_IN me_97 (by decide) rfl q815 dX0_init_164 rfl
theorem s_26_167 : S26 167 (ia_pfR 170 1 26) := sa_n (snd_pfR ci_1 (k := 26) (lt_c rfl) dX0_init_167 q908 (Or.inl rfl) (Or.inr ⟨rfl, rfl⟩) (Or.inl ⟨_, rfl⟩) rfl rfl) on_pfR
theorem s_26_170 : S26 170 (ia_al 171 0) := sa_n (snd_aload_n dX0_init_170 rfl rfl) on_al
theorem s_26_171 : S26 171 (ia_new 174 6 6) := sa_n (snd_new ci_6 okt_6 dX0_init_171 q844 q845 q112 rfl) on_new
theorem s_26_174 : S26 174 (ia_dup 175) := sa_n (snd_dup dX0_init_174 rfl) on_dup
theorem s_26_175 : S26 175 (ia_al 176 0) := sa_n (snd_aload_n dX0_init_175 rfl rfl) on_al
theorem s_26_176 : S26 176 (ia_call 179 2 6 102 2) := sk_IN me_102 (by decide) rfl q846 dX0_init_176 rfl
theorem s_26_179 : S26 179 (ia_pfR 182 1 27) := sa_n (snd_pfR ci_1 (k := 27) (lt_c rfl) dX0_init_179 q909 (Or.inl rfl) (Or.inr ⟨rfl, rfl⟩) (Or.inl ⟨_, rfl⟩) rfl rfl) on_pfR
theorem s_26_182 : S26 182 (ia_k 183 3) := sa_n (snd_iconst dX0_init_182 rfl (okI_c rfl) rfl) on_k
theorem s_26_183 : S26 183 (ia_is 184 1) := sa_n (snd_istore_n dX0_init_183 rfl (lt_c rfl) rfl) on_is
theorem s_26_184 : S26 184 (ia_keep [0, 1] (ia_il 185 1)) := sa_nk (snd_iload_n dX0_init_184 rfl rfl) on_il
theorem s_26_185 : S26 185 (ia_k 188 300) := sa_n (snd_sipush dX0_init_185 (by decide) (okI_c rfl) rfl) on_k
theorem s_26_188 : S26 188 (ia_ic k2g 191 218) := sa_b (sndB_ic_ge dX0_init_188 rfl rfl) on_ic
theorem s_26_191 : S26 191 (ia_al 192 0) := sa_n (snd_aload_n dX0_init_191 rfl rfl) on_al
theorem s_26_192 : S26 192 (ia_gfR 195 1 13) := sa_n (snd_gfR ci_1 (k := 13) (lt_c rfl) dX0_init_192 (Or.inl q895) (Or.inl rfl) (fun _ _ _ _ => rfl) rfl rfl) on_gfR
theorem s_26_195 : S26 195 (ia_il 196 1) := sa_n (snd_iload_n dX0_init_195 rfl rfl) on_il
theorem s_26_196 : S26 196 (ia_new 199 7 4) := sa_n (snd_new ci_7 okt_7 dX0_init_196 q357 q358 q113 rfl) on_new
theorem s_26_199 : S26 199 (ia_dup 200) := sa_n (snd_dup dX0_init_199 rfl) on_dup
theorem s_26_200 : S26 200 (ia_k 201 0) := sa_n (snd_iconst dX0_init_200 rfl (okI_c rfl) rfl) on_k
theorem s_26_201 : S26 201 (ia_k 202 0) := sa_n (snd_iconst dX0_init_201 rfl (okI_c rfl) rfl) on_k
theorem s_26_202 : S26 202 (ia_il 203 1) := sa_n (snd_iload_n dX0_init_202 rfl rfl) on_il
theorem s_26_203 : S26 203 (ia_k 204 3) := sa_n (snd_iconst dX0_init_203 rfl (okI_c rfl) rfl) on_k
theorem s_26_204 : S26 204 (ia_div 205) := sa_n (snd_idiv dX0_init_204 rfl) on_div
theorem s_26_205 : S26 205 (ia_il 206 1) := sa_n (snd_iload_n dX0_init_205 rfl rfl) on_il
theorem s_26_206 : S26 206 (ia_k 207 3) := sa_n (snd_iconst dX0_init_206 rfl (okI_c rfl) rfl) on_k
theorem s_26_207 : S26 207 (ia_rem 208) := sa_n (snd_irem dX0_init_207 rfl) on_rem
theorem s_26_208 : S26 208 (ia_call 211 5 7 106 5) := sk_I me_106 (by decide) rfl q359 dX0_init_208 rfl
theorem s_26_211 : S26 211 (ia_stR 212 107 [7]) := sa_n (snd_aastore (by decide) es_107 (by decide) dX0_init_211 rfl) on_stR
theorem s_26_212 : S26 212 (ia_inc 215 1 1) := sa_n (snd_iinc dX0_init_212 rfl (lt_c rfl) rfl) on_inc
theorem s_26_215 : S26 215 (ia_go 184) := sa_n (snd_goto dX0_init_215 rfl) on_go
theorem s_26_218 : S26 218 (ia_ret0) := sa_t (st_ret0 dX0_init_218 rfl) on_ret0
theorem sa_26_0 (pc : Nat) : S26 pc (cd_26_0 pc) := sa_c (sa_c (sa_c (sa_c (sa_c (sa_l s_26_0) (sa_c (sa_l s_26_1) (sa_l s_26_4))) (sa_c (sa_l s_26_5) (sa_c (sa_l s_26_7) (sa_l s_26_9)))) (sa_c (sa_c (sa_l s_26_12) (sa_c (sa_l s_26_13) (sa_l s_26_16))) (sa_c (sa_c (sa_l s_26_17) (sa_l s_26_20)) (sa_c (sa_l s_26_23) (sa_l s_26_24))))) (sa_c (sa_c (sa_c (sa_l s_26_27) (sa_c (sa_l s_26_28) (sa_l s_26_31))) (sa_c (sa_c (sa_l s_26_34) (sa_l s_26_35)) (sa_c (sa_l s_26_38) (sa_l s_26_39)))) (sa_c (sa_c (sa_l s_26_42) (sa_c (sa_l s_26_45) (sa_l s_26_46))) (sa_c (sa_c (sa_l s_26_47) (sa_l s_26_50)) (sa_c (sa_l s_26_53) (sa_l s_26_54)))))) (sa_c (sa_c (sa_c (sa_c (sa_l s_26_57) (sa_c (sa_l s_26_59) (sa_l s_26_62))) (sa_c (sa_c (sa_l s_26_63) (sa_l s_26_64)) (sa_c (sa_l s_26_67) (sa_l s_26_68)))) (sa_c (sa_c (sa_l s_26_71) (sa_c (sa_l s_26_72) (sa_l s_26_73))) (sa_c (sa_c (sa_l s_26_76) (sa_l s_26_79)) (sa_c (sa_l s_26_80) (sa_l s_26_83))))) (sa_c (sa_c (sa_c (sa_l s_26_84) (sa_c (sa_l s_26_85) (sa_l s_26_88))) (sa_c (sa_c (sa_l s_26_91) (sa_l s_26_92)) (sa_c (sa_l s_26_95) (sa_l s_26_98)))) (sa_c (sa_c (sa_l s_26_101) (sa_c (sa_l s_26_102) (sa_l s_26_105))) (sa_c (sa_c (sa_l s_26_106) (sa_l s_26_109)) (sa_c (sa_l s_26_112) (sa_l s_26_113))))))
theorem sa_26_1 (pc : Nat) : S26 pc (cd_26_1 pc) := sa_c (sa_c (sa_c (sa_c (sa_c (sa_l s_26_116) (sa_c (sa_l s_26_117) (sa_l s_26_120))) (sa_c (sa_l s_26_123) (sa_c (sa_l s_26_124) (sa_l s_26_127)))) (sa_c (sa_c (sa_l s_26_128) (sa_c (sa_l s_26_131) (sa_l s_26_134))) (sa_c (sa_c (sa_l s_26_135) (sa_l s_26_138)) (sa_c (sa_l s_26_139) (sa_l s_26_142))))) (sa_c (sa_c (sa_c (sa_l s_26_145) (sa_c (sa_l s_26_146) (sa_l s_26_148))) (sa_c (sa_c (sa_l s_26_150) (sa_l s_26_153)) (sa_c (sa_l s_26_154) (sa_l s_26_155)))) (sa_c (sa_c (sa_l s_26_158) (sa_c (sa_l s_26_159) (sa_l s_26_162))) (sa_c (sa_c (sa_l s_26_163) (sa_l s_26_164)) (sa_c (sa_l s_26_167) (sa_l s_26_170)))))) (sa_c (sa_c (sa_c (sa_c (sa_l s_26_171) (sa_c (sa_l s_26_174) (sa_l s_26_175))) (sa_c (sa_c (sa_l s_26_176) (sa_l s_26_179)) (sa_c (sa_l s_26_182) (sa_l s_26_183)))) (sa_c (sa_c (sa_l s_26_184) (sa_c (sa_l s_26_185) (sa_l s_26_188))) (sa_c (sa_c (sa_l s_26_191) (sa_l s_26_192)) (sa_c (sa_l s_26_195) (sa_l s_26_196))))) (sa_c (sa_c (sa_c (sa_l s_26_199) (sa_c (sa_l s_26_200) (sa_l s_26_201))) (sa_c (sa_c (sa_l s_26_202) (sa_l s_26_203)) (sa_c (sa_l s_26_204) (sa_l s_26_205)))) (sa_c (sa_c (sa_l s_26_206) (sa_c (sa_l s_26_207) (sa_l s_26_208))) (sa_c (sa_c (sa_l s_26_211) (sa_l s_26_212)) (sa_c (sa_l s_26_215) (sa_l s_26_218))))))
theorem sa_26 (pc : Nat) : S26 pc (cd_26 pc) := sa_c (sa_26_0 pc) (sa_26_1 pc)
abbrev S27 (pc : Nat) (x : XI) : Prop := SA "WeekFoot" cX0_fits 1 "fits" (some .int) pc x
theorem s_27_0 : S27 0 (ia_al 1 0) := sa_n (snd_aload_n dX0_fits_0 rfl rfl) on_al
theorem s_27_1 : S27 1 (ia_gfR 4 1 11) := sa_n (snd_gfR ci_1 (k := 11) (lt_c rfl) dX0_fits_1 (Or.inl q892) (Or.inl rfl) (fun _ _ _ _ => rfl) rfl rfl) on_gfR
theorem s_27_4 : S27 4 (ia_call 7 1 4 88 1) := sk_V me_88 q971 dX0_fits_4 rfl
theorem s_27_7 : S27 7 (ia_if k0e 10 14) := sa_b (sndB_if_eq dX0_fits_7 rfl rfl) on_if
theorem s_27_10 : S27 10 (ia_k 11 1) := sa_n (snd_iconst dX0_fits_10 rfl (okI_c rfl) rfl) on_k
theorem s_27_11 : S27 11 (ia_go 15) := sa_n (snd_goto dX0_fits_11 rfl) on_go
theorem s_27_14 : S27 14 (ia_k 15 0) := sa_n (snd_iconst dX0_fits_14 rfl (okI_c rfl) rfl) on_k
theorem s_27_15 : S27 15 (ia_retI) := sa_t (st_retI dX0_fits_15 rfl) on_retI
theorem sa_27 (pc : Nat) : S27 pc (cd_27 pc) := sa_c (sa_c (sa_c (sa_l s_27_0) (sa_l s_27_1)) (sa_c (sa_l s_27_4) (sa_l s_27_7))) (sa_c (sa_c (sa_l s_27_10) (sa_l s_27_11)) (sa_c (sa_l s_27_14) (sa_l s_27_15)))
abbrev S28 (pc : Nat) (x : XI) : Prop := SA "WeekFoot" cX0_counted 3 "counted" (some .int) pc x
theorem s_28_0 : S28 0 (ia_k 1 0) := sa_n (snd_iconst dX0_counted_0 rfl (okI_c rfl) rfl) on_k
theorem s_28_1 : S28 1 (ia_is 2 1) := sa_n (snd_istore_n dX0_counted_1 rfl (lt_c rfl) rfl) on_is
theorem s_28_2 : S28 2 (ia_k 3 0) := sa_n (snd_iconst dX0_counted_2 rfl (okI_c rfl) rfl) on_k
theorem s_28_3 : S28 3 (ia_is 4 2) := sa_n (snd_istore_n dX0_counted_3 rfl (lt_c rfl) rfl) on_is
theorem s_28_4 : S28 4 (ia_keep [0, 1, 2] (ia_il 5 2)) := sa_nk (snd_iload_n dX0_counted_4 rfl rfl) on_il
theorem s_28_5 : S28 5 (ia_al 6 0) := sa_n (snd_aload_n dX0_counted_5 rfl rfl) on_al
theorem s_28_6 : S28 6 (ia_gfR 9 1 4) := sa_n (snd_gfR ci_1 (k := 4) (lt_c rfl) dX0_counted_6 (Or.inl q883) (Or.inl rfl) (fun _ _ _ _ => rfl) rfl rfl) on_gfR
theorem s_28_9 : S28 9 (ia_gfR 12 3 5) := sa_n (snd_gfR ci_3 (k := 5) (lt_c rfl) dX0_counted_9 (Or.inr ⟨_, q207⟩) (Or.inl rfl) (fun _ _ _ _ => rfl) rfl rfl) on_gfR
theorem s_28_12 : S28 12 (ia_call 15 1 16 254 1) := sk_V me_254 q353 dX0_counted_12 rfl
theorem s_28_15 : S28 15 (ia_ic k2g 18 46) := sa_b (sndB_ic_ge dX0_counted_15 rfl rfl) on_ic
theorem s_28_18 : S28 18 (ia_il 19 1) := sa_n (snd_iload_n dX0_counted_18 rfl rfl) on_il
theorem s_28_19 : S28 19 (ia_al 20 0) := sa_n (snd_aload_n dX0_counted_19 rfl rfl) on_al
theorem s_28_20 : S28 20 (ia_gfR 23 1 4) := sa_n (snd_gfR ci_1 (k := 4) (lt_c rfl) dX0_counted_20 (Or.inl q883) (Or.inl rfl) (fun _ _ _ _ => rfl) rfl rfl) on_gfR
theorem s_28_23 : S28 23 (ia_gfR 26 3 4) := sa_n (snd_gfR ci_3 (k := 4) (lt_c rfl) dX0_counted_23 (Or.inr ⟨_, q202⟩) (Or.inl rfl) (fun _ _ _ _ => rfl) rfl rfl) on_gfR
theorem s_28_26 : S28 26 (ia_il 27 2) := sa_n (snd_iload_n dX0_counted_26 rfl rfl) on_il
theorem s_28_27 : S28 27 (ia_ldI 28 101) := sa_n (snd_zaload dX0_counted_27 rfl) on_ldI
theorem s_28_28 : S28 28 (ia_if k0e 31 37) := sa_b (sndB_if_eq dX0_counted_28 rfl rfl) on_if
theorem s_28_31 : S28 31 (ia_k 32 1) := sa_n (snd_iconst dX0_counted_31 rfl (okI_c rfl) rfl) on_k
theorem s_28_32 : S28 32 (ia_il 33 2) := sa_n (snd_iload_n dX0_counted_32 rfl rfl) on_il
theorem s_28_33 : S28 33 (ia_bit bShl 34) := sa_n (snd_bShl dX0_counted_33 rfl) on_bit
theorem s_28_34 : S28 34 (ia_go 38) := sa_n (snd_goto dX0_counted_34 rfl) on_go
theorem s_28_37 : S28 37 (ia_k 38 0) := sa_n (snd_iconst dX0_counted_37 rfl (okI_c rfl) rfl) on_k
theorem s_28_38 : S28 38 (ia_bit bOr 39) := sa_n (snd_bOr dX0_counted_38 rfl) on_bit
theorem s_28_39 : S28 39 (ia_is 40 1) := sa_n (snd_istore_n dX0_counted_39 rfl (lt_c rfl) rfl) on_is
theorem s_28_40 : S28 40 (ia_inc 43 2 1) := sa_n (snd_iinc dX0_counted_40 rfl (lt_c rfl) rfl) on_inc
theorem s_28_43 : S28 43 (ia_go 4) := sa_n (snd_goto dX0_counted_43 rfl) on_go
theorem s_28_46 : S28 46 (ia_il 47 1) := sa_n (snd_iload_n dX0_counted_46 rfl rfl) on_il
theorem s_28_47 : S28 47 (ia_retI) := sa_t (st_retI dX0_counted_47 rfl) on_retI
theorem sa_28 (pc : Nat) : S28 pc (cd_28 pc) := sa_c (sa_c (sa_c (sa_c (sa_l s_28_0) (sa_c (sa_l s_28_1) (sa_l s_28_2))) (sa_c (sa_c (sa_l s_28_3) (sa_l s_28_4)) (sa_c (sa_l s_28_5) (sa_l s_28_6)))) (sa_c (sa_c (sa_l s_28_9) (sa_c (sa_l s_28_12) (sa_l s_28_15))) (sa_c (sa_c (sa_l s_28_18) (sa_l s_28_19)) (sa_c (sa_l s_28_20) (sa_l s_28_23))))) (sa_c (sa_c (sa_c (sa_l s_28_26) (sa_c (sa_l s_28_27) (sa_l s_28_28))) (sa_c (sa_c (sa_l s_28_31) (sa_l s_28_32)) (sa_c (sa_l s_28_33) (sa_l s_28_34)))) (sa_c (sa_c (sa_l s_28_37) (sa_c (sa_l s_28_38) (sa_l s_28_39))) (sa_c (sa_c (sa_l s_28_40) (sa_l s_28_43)) (sa_c (sa_l s_28_46) (sa_l s_28_47)))))
abbrev S29 (pc : Nat) (x : XI) : Prop := SA "WeekFoot" cX0_between 5 "between" (some .int) pc x
theorem s_29_0 : S29 0 (ia_al 1 0) := sa_n (snd_aload_n dX0_between_0 rfl rfl) on_al
theorem s_29_1 : S29 1 (ia_il 2 1) := sa_n (snd_iload_n dX0_between_1 rfl rfl) on_il
theorem s_29_2 : S29 2 (ia_call 5 2 1 30 2) := sk_V me_30 q1045 dX0_between_2 rfl
theorem s_29_5 : S29 5 (ia_if k0e 8 35) := sa_b (sndB_if_eq dX0_between_5 rfl rfl) on_if
theorem s_29_8 : S29 8 (ia_al 9 0) := sa_n (snd_aload_n dX0_between_8 rfl rfl) on_al
theorem s_29_9 : S29 9 (ia_il 10 2) := sa_n (snd_iload_n dX0_between_9 rfl rfl) on_il
theorem s_29_10 : S29 10 (ia_call 13 2 1 30 2) := sk_V me_30 q1045 dX0_between_10 rfl
theorem s_29_13 : S29 13 (ia_if k0e 16 35) := sa_b (sndB_if_eq dX0_between_13 rfl rfl) on_if
theorem s_29_16 : S29 16 (ia_il 17 3) := sa_n (snd_iload_n dX0_between_16 rfl rfl) on_il
theorem s_29_17 : S29 17 (ia_k 18 0) := sa_n (snd_iconst dX0_between_17 rfl (okI_c rfl) rfl) on_k
theorem s_29_18 : S29 18 (ia_k 19 3) := sa_n (snd_iconst dX0_between_18 rfl (okI_c rfl) rfl) on_k
theorem s_29_19 : S29 19 (ia_stat 22 3 2 3) := sk_S me_2 q138 dX0_between_19 rfl
theorem s_29_22 : S29 22 (ia_if k0e 25 35) := sa_b (sndB_if_eq dX0_between_22 rfl rfl) on_if
theorem s_29_25 : S29 25 (ia_al 26 0) := sa_n (snd_aload_n dX0_between_25 rfl rfl) on_al
theorem s_29_26 : S29 26 (ia_gfR 29 1 11) := sa_n (snd_gfR ci_1 (k := 11) (lt_c rfl) dX0_between_26 (Or.inl q892) (Or.inl rfl) (fun _ _ _ _ => rfl) rfl rfl) on_gfR
theorem s_29_29 : S29 29 (ia_call 32 1 4 88 1) := sk_V me_88 q971 dX0_between_29 rfl
theorem s_29_32 : S29 32 (ia_if k0n 35 38) := sa_b (sndB_if_ne dX0_between_32 rfl rfl) on_if
theorem s_29_35 : S29 35 (ia_k 37 (-2)) := sa_n (snd_bipush dX0_between_35 (by decide) (okI_c rfl) rfl) on_k
theorem s_29_37 : S29 37 (ia_retI) := sa_t (st_retI dX0_between_37 rfl) on_retI
theorem s_29_38 : S29 38 (ia_il 39 3) := sa_n (snd_iload_n dX0_between_38 rfl rfl) on_il
theorem s_29_39 : S29 39 (ia_k 40 2) := sa_n (snd_iconst dX0_between_39 rfl (okI_c rfl) rfl) on_k
theorem s_29_40 : S29 40 (ia_rem 41) := sa_n (snd_irem dX0_between_40 rfl) on_rem
theorem s_29_41 : S29 41 (ia_if k0n 44 53) := sa_b (sndB_if_ne dX0_between_41 rfl rfl) on_if
theorem s_29_44 : S29 44 (ia_k 46 16) := sa_n (snd_bipush dX0_between_44 (by decide) (okI_c rfl) rfl) on_k
theorem s_29_46 : S29 46 (ia_il 47 1) := sa_n (snd_iload_n dX0_between_46 rfl rfl) on_il
theorem s_29_47 : S29 47 (ia_mul 48) := sa_n (snd_imul dX0_between_47 rfl) on_mul
theorem s_29_48 : S29 48 (ia_il 49 2) := sa_n (snd_iload_n dX0_between_48 rfl rfl) on_il
theorem s_29_49 : S29 49 (ia_add 50) := sa_n (snd_iadd dX0_between_49 rfl) on_add
theorem s_29_50 : S29 50 (ia_go 59) := sa_n (snd_goto dX0_between_50 rfl) on_go
theorem s_29_53 : S29 53 (ia_k 55 16) := sa_n (snd_bipush dX0_between_53 (by decide) (okI_c rfl) rfl) on_k
theorem s_29_55 : S29 55 (ia_il 56 2) := sa_n (snd_iload_n dX0_between_55 rfl rfl) on_il
theorem s_29_56 : S29 56 (ia_mul 57) := sa_n (snd_imul dX0_between_56 rfl) on_mul
theorem s_29_57 : S29 57 (ia_il 58 1) := sa_n (snd_iload_n dX0_between_57 rfl rfl) on_il
theorem s_29_58 : S29 58 (ia_add 59) := sa_n (snd_iadd dX0_between_58 rfl) on_add
theorem s_29_59 : S29 59 (ia_is 61 4) := sa_n (snd_istore dX0_between_59 (lt_c rfl) rfl) on_is
theorem s_29_61 : S29 61 (ia_il 62 3) := sa_n (snd_iload_n dX0_between_61 rfl rfl) on_il
theorem s_29_62 : S29 62 (ia_k 63 1) := sa_n (snd_iconst dX0_between_62 rfl (okI_c rfl) rfl) on_k
theorem s_29_63 : S29 63 (ia_ic k2L 66 98) := sa_b (sndB_ic_le dX0_between_63 rfl rfl) on_ic
theorem s_29_66 : S29 66 (ia_al 67 0) := sa_n (snd_aload_n dX0_between_66 rfl rfl) on_al
theorem s_29_67 : S29 67 (ia_gfR 70 1 11) := sa_n (snd_gfR ci_1 (k := 11) (lt_c rfl) dX0_between_67 (Or.inl q892) (Or.inl rfl) (fun _ _ _ _ => rfl) rfl rfl) on_gfR
theorem s_29_70 : S29 70 (ia_gfR 73 4 4) := sa_n (snd_gfR ci_4 (k := 4) (lt_c rfl) dX0_between_70 (Or.inr ⟨_, q787⟩) (Or.inl rfl) (fun _ _ _ _ => rfl) rfl rfl) on_gfR
theorem s_29_73 : S29 73 (ia_il 75 4) := sa_n (snd_iload dX0_between_73 rfl) on_il
theorem s_29_75 : S29 75 (ia_ldI 76 101) := sa_n (snd_zaload dX0_between_75 rfl) on_ldI
theorem s_29_76 : S29 76 (ia_if k0e 79 96) := sa_b (sndB_if_eq dX0_between_76 rfl rfl) on_if
theorem s_29_79 : S29 79 (ia_al 80 0) := sa_n (snd_aload_n dX0_between_79 rfl rfl) on_al
theorem s_29_80 : S29 80 (ia_gfR 83 1 11) := sa_n (snd_gfR ci_1 (k := 11) (lt_c rfl) dX0_between_80 (Or.inl q892) (Or.inl rfl) (fun _ _ _ _ => rfl) rfl rfl) on_gfR
theorem s_29_83 : S29 83 (ia_gfR 86 4 5) := sa_n (snd_gfR ci_4 (k := 5) (lt_c rfl) dX0_between_83 (Or.inr ⟨_, q789⟩) (Or.inl rfl) (fun _ _ _ _ => rfl) rfl rfl) on_gfR
theorem s_29_86 : S29 86 (ia_il 88 4) := sa_n (snd_iload dX0_between_86 rfl) on_il
theorem s_29_88 : S29 88 (ia_ldI 89 101) := sa_n (snd_zaload dX0_between_88 rfl) on_ldI
theorem s_29_89 : S29 89 (ia_if k0n 92 96) := sa_b (sndB_if_ne dX0_between_89 rfl rfl) on_if
theorem s_29_92 : S29 92 (ia_k 93 1) := sa_n (snd_iconst dX0_between_92 rfl (okI_c rfl) rfl) on_k
theorem s_29_93 : S29 93 (ia_go 97) := sa_n (snd_goto dX0_between_93 rfl) on_go
theorem s_29_96 : S29 96 (ia_k 97 0) := sa_n (snd_iconst dX0_between_96 rfl (okI_c rfl) rfl) on_k
theorem s_29_97 : S29 97 (ia_retI) := sa_t (st_retI dX0_between_97 rfl) on_retI
theorem s_29_98 : S29 98 (ia_al 99 0) := sa_n (snd_aload_n dX0_between_98 rfl rfl) on_al
theorem s_29_99 : S29 99 (ia_gfR 102 1 11) := sa_n (snd_gfR ci_1 (k := 11) (lt_c rfl) dX0_between_99 (Or.inl q892) (Or.inl rfl) (fun _ _ _ _ => rfl) rfl rfl) on_gfR
theorem s_29_102 : S29 102 (ia_gfR 105 4 4) := sa_n (snd_gfR ci_4 (k := 4) (lt_c rfl) dX0_between_102 (Or.inr ⟨_, q787⟩) (Or.inl rfl) (fun _ _ _ _ => rfl) rfl rfl) on_gfR
theorem s_29_105 : S29 105 (ia_il 107 4) := sa_n (snd_iload dX0_between_105 rfl) on_il
theorem s_29_107 : S29 107 (ia_ldI 108 101) := sa_n (snd_zaload dX0_between_107 rfl) on_ldI
theorem s_29_108 : S29 108 (ia_if k0n 111 121) := sa_b (sndB_if_ne dX0_between_108 rfl rfl) on_if
theorem s_29_111 : S29 111 (ia_il 112 3) := sa_n (snd_iload_n dX0_between_111 rfl rfl) on_il
theorem s_29_112 : S29 112 (ia_if k0n 115 119) := sa_b (sndB_if_ne dX0_between_112 rfl rfl) on_if
theorem s_29_115 : S29 115 (ia_k 116 0) := sa_n (snd_iconst dX0_between_115 rfl (okI_c rfl) rfl) on_k
theorem s_29_116 : S29 116 (ia_go 120) := sa_n (snd_goto dX0_between_116 rfl) on_go
theorem s_29_119 : S29 119 (ia_k 120 (-1)) := sa_n (snd_iconst dX0_between_119 rfl (okI_c rfl) rfl) on_k
theorem s_29_120 : S29 120 (ia_retI) := sa_t (st_retI dX0_between_120 rfl) on_retI
theorem s_29_121 : S29 121 (ia_il 122 3) := sa_n (snd_iload_n dX0_between_121 rfl rfl) on_il
theorem s_29_122 : S29 122 (ia_if k0n 125 158) := sa_b (sndB_if_ne dX0_between_122 rfl rfl) on_if
theorem s_29_125 : S29 125 (ia_al 126 0) := sa_n (snd_aload_n dX0_between_125 rfl rfl) on_al
theorem s_29_126 : S29 126 (ia_al 127 0) := sa_n (snd_aload_n dX0_between_126 rfl rfl) on_al
theorem s_29_127 : S29 127 (ia_gfR 130 1 11) := sa_n (snd_gfR ci_1 (k := 11) (lt_c rfl) dX0_between_127 (Or.inl q892) (Or.inl rfl) (fun _ _ _ _ => rfl) rfl rfl) on_gfR
theorem s_29_130 : S29 130 (ia_gfR 133 4 0) := sa_n (snd_gfR ci_4 (k := 0) (lt_c rfl) dX0_between_130 (Or.inr ⟨_, q781⟩) (Or.inl rfl) (fun _ _ _ _ => rfl) rfl rfl) on_gfR
theorem s_29_133 : S29 133 (ia_il 135 4) := sa_n (snd_iload dX0_between_133 rfl) on_il
theorem s_29_135 : S29 135 (ia_ldR 136 106) := sa_n (snd_aaload (by decide) dX0_between_135 rfl) on_ldR
theorem s_29_136 : S29 136 (ia_k 139 1000000) := sa_n (snd_ldcw dX0_between_136 q1049 (by decide) (okI_c rfl) rfl) on_k
theorem s_29_139 : S29 139 (ia_al 140 0) := sa_n (snd_aload_n dX0_between_139 rfl rfl) on_al
theorem s_29_140 : S29 140 (ia_gfR 143 1 11) := sa_n (snd_gfR ci_1 (k := 11) (lt_c rfl) dX0_between_140 (Or.inl q892) (Or.inl rfl) (fun _ _ _ _ => rfl) rfl rfl) on_gfR
theorem s_29_143 : S29 143 (ia_gfR 146 4 1) := sa_n (snd_gfR ci_4 (k := 1) (lt_c rfl) dX0_between_143 (Or.inr ⟨_, q783⟩) (Or.inl rfl) (fun _ _ _ _ => rfl) rfl rfl) on_gfR
theorem s_29_146 : S29 146 (ia_il 148 4) := sa_n (snd_iload dX0_between_146 rfl) on_il
theorem s_29_148 : S29 148 (ia_ldR 149 106) := sa_n (snd_aaload (by decide) dX0_between_148 rfl) on_ldR
theorem s_29_149 : S29 149 (ia_k 152 2000000000) := sa_n (snd_ldcw dX0_between_149 q1050 (by decide) (okI_c rfl) rfl) on_k
theorem s_29_152 : S29 152 (ia_call 155 5 1 31 8) := sk_V me_31 q1051 dX0_between_152 rfl
theorem s_29_155 : S29 155 (ia_go 188) := sa_n (snd_goto dX0_between_155 rfl) on_go
theorem s_29_158 : S29 158 (ia_al 159 0) := sa_n (snd_aload_n dX0_between_158 rfl rfl) on_al
theorem s_29_159 : S29 159 (ia_al 160 0) := sa_n (snd_aload_n dX0_between_159 rfl rfl) on_al
theorem s_29_160 : S29 160 (ia_gfR 163 1 11) := sa_n (snd_gfR ci_1 (k := 11) (lt_c rfl) dX0_between_160 (Or.inl q892) (Or.inl rfl) (fun _ _ _ _ => rfl) rfl rfl) on_gfR
theorem s_29_163 : S29 163 (ia_gfR 166 4 1) := sa_n (snd_gfR ci_4 (k := 1) (lt_c rfl) dX0_between_163 (Or.inr ⟨_, q783⟩) (Or.inl rfl) (fun _ _ _ _ => rfl) rfl rfl) on_gfR
theorem s_29_166 : S29 166 (ia_il 168 4) := sa_n (snd_iload dX0_between_166 rfl) on_il
theorem s_29_168 : S29 168 (ia_ldR 169 106) := sa_n (snd_aaload (by decide) dX0_between_168 rfl) on_ldR
theorem s_29_169 : S29 169 (ia_k 172 1000000) := sa_n (snd_ldcw dX0_between_169 q1049 (by decide) (okI_c rfl) rfl) on_k
theorem s_29_172 : S29 172 (ia_al 173 0) := sa_n (snd_aload_n dX0_between_172 rfl rfl) on_al
theorem s_29_173 : S29 173 (ia_gfR 176 1 11) := sa_n (snd_gfR ci_1 (k := 11) (lt_c rfl) dX0_between_173 (Or.inl q892) (Or.inl rfl) (fun _ _ _ _ => rfl) rfl rfl) on_gfR
theorem s_29_176 : S29 176 (ia_gfR 179 4 0) := sa_n (snd_gfR ci_4 (k := 0) (lt_c rfl) dX0_between_176 (Or.inr ⟨_, q781⟩) (Or.inl rfl) (fun _ _ _ _ => rfl) rfl rfl) on_gfR
theorem s_29_179 : S29 179 (ia_il 181 4) := sa_n (snd_iload dX0_between_179 rfl) on_il
theorem s_29_181 : S29 181 (ia_ldR 182 106) := sa_n (snd_aaload (by decide) dX0_between_181 rfl) on_ldR
theorem s_29_182 : S29 182 (ia_k 185 2000000000) := sa_n (snd_ldcw dX0_between_182 q1050 (by decide) (okI_c rfl) rfl) on_k
theorem s_29_185 : S29 185 (ia_call 188 5 1 31 8) := sk_V me_31 q1051 dX0_between_185 rfl
theorem s_29_188 : S29 188 (ia_retI) := sa_t (st_retI dX0_between_188 rfl) on_retI
theorem sa_29_0 (pc : Nat) : S29 pc (cd_29_0 pc) := sa_c (sa_c (sa_c (sa_c (sa_c (sa_l s_29_0) (sa_c (sa_l s_29_1) (sa_l s_29_2))) (sa_c (sa_l s_29_5) (sa_c (sa_l s_29_8) (sa_l s_29_9)))) (sa_c (sa_c (sa_l s_29_10) (sa_c (sa_l s_29_13) (sa_l s_29_16))) (sa_c (sa_l s_29_17) (sa_c (sa_l s_29_18) (sa_l s_29_19))))) (sa_c (sa_c (sa_c (sa_l s_29_22) (sa_c (sa_l s_29_25) (sa_l s_29_26))) (sa_c (sa_l s_29_29) (sa_c (sa_l s_29_32) (sa_l s_29_35)))) (sa_c (sa_c (sa_l s_29_37) (sa_c (sa_l s_29_38) (sa_l s_29_39))) (sa_c (sa_l s_29_40) (sa_c (sa_l s_29_41) (sa_l s_29_44)))))) (sa_c (sa_c (sa_c (sa_c (sa_l s_29_46) (sa_c (sa_l s_29_47) (sa_l s_29_48))) (sa_c (sa_l s_29_49) (sa_c (sa_l s_29_50) (sa_l s_29_53)))) (sa_c (sa_c (sa_l s_29_55) (sa_c (sa_l s_29_56) (sa_l s_29_57))) (sa_c (sa_l s_29_58) (sa_c (sa_l s_29_59) (sa_l s_29_61))))) (sa_c (sa_c (sa_c (sa_l s_29_62) (sa_c (sa_l s_29_63) (sa_l s_29_66))) (sa_c (sa_l s_29_67) (sa_c (sa_l s_29_70) (sa_l s_29_73)))) (sa_c (sa_c (sa_l s_29_75) (sa_c (sa_l s_29_76) (sa_l s_29_79))) (sa_c (sa_c (sa_l s_29_80) (sa_l s_29_83)) (sa_c (sa_l s_29_86) (sa_l s_29_88))))))
theorem sa_29_1 (pc : Nat) : S29 pc (cd_29_1 pc) := sa_c (sa_c (sa_c (sa_c (sa_c (sa_l s_29_89) (sa_c (sa_l s_29_92) (sa_l s_29_93))) (sa_c (sa_l s_29_96) (sa_c (sa_l s_29_97) (sa_l s_29_98)))) (sa_c (sa_c (sa_l s_29_99) (sa_c (sa_l s_29_102) (sa_l s_29_105))) (sa_c (sa_l s_29_107) (sa_c (sa_l s_29_108) (sa_l s_29_111))))) (sa_c (sa_c (sa_c (sa_l s_29_112) (sa_c (sa_l s_29_115) (sa_l s_29_116))) (sa_c (sa_l s_29_119) (sa_c (sa_l s_29_120) (sa_l s_29_121)))) (sa_c (sa_c (sa_l s_29_122) (sa_c (sa_l s_29_125) (sa_l s_29_126))) (sa_c (sa_l s_29_127) (sa_c (sa_l s_29_130) (sa_l s_29_133)))))) (sa_c (sa_c (sa_c (sa_c (sa_l s_29_135) (sa_c (sa_l s_29_136) (sa_l s_29_139))) (sa_c (sa_l s_29_140) (sa_c (sa_l s_29_143) (sa_l s_29_146)))) (sa_c (sa_c (sa_l s_29_148) (sa_c (sa_l s_29_149) (sa_l s_29_152))) (sa_c (sa_l s_29_155) (sa_c (sa_l s_29_158) (sa_l s_29_159))))) (sa_c (sa_c (sa_c (sa_l s_29_160) (sa_c (sa_l s_29_163) (sa_l s_29_166))) (sa_c (sa_l s_29_168) (sa_c (sa_l s_29_169) (sa_l s_29_172)))) (sa_c (sa_c (sa_l s_29_173) (sa_c (sa_l s_29_176) (sa_l s_29_179))) (sa_c (sa_c (sa_l s_29_181) (sa_l s_29_182)) (sa_c (sa_l s_29_185) (sa_l s_29_188))))))
theorem sa_29 (pc : Nat) : S29 pc (cd_29 pc) := sa_c (sa_29_0 pc) (sa_29_1 pc)
abbrev S30 (pc : Nat) (x : XI) : Prop := SA "WeekFoot" cX0_isLength 2 "isLength" (some .boolean) pc x
theorem s_30_0 : S30 0 (ia_il 1 1) := sa_n (snd_iload_n dX0_isLength_0 rfl rfl) on_il
theorem s_30_1 : S30 1 (ia_k 2 0) := sa_n (snd_iconst dX0_isLength_1 rfl (okI_c rfl) rfl) on_k
theorem s_30_2 : S30 2 (ia_k 4 15) := sa_n (snd_bipush dX0_isLength_2 (by decide) (okI_c rfl) rfl) on_k
theorem s_30_4 : S30 4 (ia_stat 7 3 2 3) := sk_S me_2 q138 dX0_isLength_4 rfl
theorem s_30_7 : S30 7 (ia_if k0e 10 41) := sa_b (sndB_if_eq dX0_isLength_7 rfl rfl) on_if
theorem s_30_10 : S30 10 (ia_il 11 1) := sa_n (snd_iload_n dX0_isLength_10 rfl rfl) on_il
theorem s_30_11 : S30 11 (ia_k 13 6) := sa_n (snd_bipush dX0_isLength_11 (by decide) (okI_c rfl) rfl) on_k
theorem s_30_13 : S30 13 (ia_k 15 11) := sa_n (snd_bipush dX0_isLength_13 (by decide) (okI_c rfl) rfl) on_k
theorem s_30_15 : S30 15 (ia_stat 18 3 2 3) := sk_S me_2 q138 dX0_isLength_15 rfl
theorem s_30_18 : S30 18 (ia_if k0e 21 37) := sa_b (sndB_if_eq dX0_isLength_18 rfl rfl) on_if
theorem s_30_21 : S30 21 (ia_al 22 0) := sa_n (snd_aload_n dX0_isLength_21 rfl rfl) on_al
theorem s_30_22 : S30 22 (ia_gfR 25 1 4) := sa_n (snd_gfR ci_1 (k := 4) (lt_c rfl) dX0_isLength_22 (Or.inl q883) (Or.inl rfl) (fun _ _ _ _ => rfl) rfl rfl) on_gfR
theorem s_30_25 : S30 25 (ia_gfR 28 3 1) := sa_n (snd_gfR ci_3 (k := 1) (lt_c rfl) dX0_isLength_25 (Or.inr ⟨_, q192⟩) (Or.inl rfl) (fun _ _ _ _ => rfl) rfl rfl) on_gfR
theorem s_30_28 : S30 28 (ia_il 29 1) := sa_n (snd_iload_n dX0_isLength_28 rfl rfl) on_il
theorem s_30_29 : S30 29 (ia_k 31 6) := sa_n (snd_bipush dX0_isLength_29 (by decide) (okI_c rfl) rfl) on_k
theorem s_30_31 : S30 31 (ia_sub 32) := sa_n (snd_isub dX0_isLength_31 rfl) on_sub
theorem s_30_32 : S30 32 (ia_ldI 33 100) := sa_n (snd_iaload dX0_isLength_32 rfl) on_ldI
theorem s_30_33 : S30 33 (ia_k 34 (-1)) := sa_n (snd_iconst dX0_isLength_33 rfl (okI_c rfl) rfl) on_k
theorem s_30_34 : S30 34 (ia_ic k2e 37 41) := sa_b (sndB_ic_eq dX0_isLength_34 rfl rfl) on_ic
theorem s_30_37 : S30 37 (ia_k 38 1) := sa_n (snd_iconst dX0_isLength_37 rfl (okI_c rfl) rfl) on_k
theorem s_30_38 : S30 38 (ia_go 42) := sa_n (snd_goto dX0_isLength_38 rfl) on_go
theorem s_30_41 : S30 41 (ia_k 42 0) := sa_n (snd_iconst dX0_isLength_41 rfl (okI_c rfl) rfl) on_k
theorem s_30_42 : S30 42 (ia_retZ) := sa_t (st_retZ dX0_isLength_42 rfl) on_retZ
theorem sa_30 (pc : Nat) : S30 pc (cd_30 pc) := sa_c (sa_c (sa_c (sa_c (sa_l s_30_0) (sa_l s_30_1)) (sa_c (sa_l s_30_2) (sa_c (sa_l s_30_4) (sa_l s_30_7)))) (sa_c (sa_c (sa_l s_30_10) (sa_c (sa_l s_30_11) (sa_l s_30_13))) (sa_c (sa_l s_30_15) (sa_c (sa_l s_30_18) (sa_l s_30_21))))) (sa_c (sa_c (sa_c (sa_l s_30_22) (sa_c (sa_l s_30_25) (sa_l s_30_28))) (sa_c (sa_l s_30_29) (sa_c (sa_l s_30_31) (sa_l s_30_32)))) (sa_c (sa_c (sa_l s_30_33) (sa_c (sa_l s_30_34) (sa_l s_30_37))) (sa_c (sa_l s_30_38) (sa_c (sa_l s_30_41) (sa_l s_30_42)))))
abbrev S31 (pc : Nat) (x : XI) : Prop := SA "WeekFoot" cX0_quotient 8 "quotient" (some .int) pc x
theorem s_31_0 : S31 0 (ia_al 1 0) := sa_n (snd_aload_n dX0_quotient_0 rfl rfl) on_al
theorem s_31_1 : S31 1 (ia_gfR 4 1 2) := sa_n (snd_gfR ci_1 (k := 2) (lt_c rfl) dX0_quotient_1 (Or.inl q876) (Or.inl rfl) (fun _ _ _ _ => rfl) rfl rfl) on_gfR
theorem s_31_4 : S31 4 (ia_al 5 1) := sa_n (snd_aload_n dX0_quotient_4 rfl rfl) on_al
theorem s_31_5 : S31 5 (ia_call 8 2 2 79 2) := sk_V me_79 q1055 dX0_quotient_5 rfl
theorem s_31_8 : S31 8 (ia_al 9 0) := sa_n (snd_aload_n dX0_quotient_8 rfl rfl) on_al
theorem s_31_9 : S31 9 (ia_gfR 12 1 2) := sa_n (snd_gfR ci_1 (k := 2) (lt_c rfl) dX0_quotient_9 (Or.inl q876) (Or.inl rfl) (fun _ _ _ _ => rfl) rfl rfl) on_gfR
theorem s_31_12 : S31 12 (ia_il 13 2) := sa_n (snd_iload_n dX0_quotient_12 rfl rfl) on_il
theorem s_31_13 : S31 13 (ia_call 16 2 2 80 5) := sk_V me_80 q1056 dX0_quotient_13 rfl
theorem s_31_16 : S31 16 (ia_k 17 0) := sa_n (snd_iconst dX0_quotient_16 rfl (okI_c rfl) rfl) on_k
theorem s_31_17 : S31 17 (ia_is 19 5) := sa_n (snd_istore dX0_quotient_17 (lt_c rfl) rfl) on_is
theorem s_31_19 : S31 19 (ia_il 21 4) := sa_n (snd_iload dX0_quotient_19 rfl) on_il
theorem s_31_21 : S31 21 (ia_is 23 6) := sa_n (snd_istore dX0_quotient_21 (lt_c rfl) rfl) on_is
theorem s_31_23 : S31 23 (ia_keep [0, 3, 5, 6] (ia_il 25 5)) := sa_nk (snd_iload dX0_quotient_23 rfl) on_il
theorem s_31_25 : S31 25 (ia_il 27 6) := sa_n (snd_iload dX0_quotient_25 rfl) on_il
theorem s_31_27 : S31 27 (ia_ic k2g 30 93) := sa_b (sndB_ic_ge dX0_quotient_27 rfl rfl) on_ic
theorem s_31_30 : S31 30 (ia_il 32 5) := sa_n (snd_iload dX0_quotient_30 rfl) on_il
theorem s_31_32 : S31 32 (ia_i2l 33) := sa_n (snd_i2l dX0_quotient_32 rfl) on_i2l
theorem s_31_33 : S31 33 (ia_il 35 6) := sa_n (snd_iload dX0_quotient_33 rfl) on_il
theorem s_31_35 : S31 35 (ia_i2l 36) := sa_n (snd_i2l dX0_quotient_35 rfl) on_i2l
theorem s_31_36 : S31 36 (ia_ladd 37) := sa_n (snd_ladd dX0_quotient_36 rfl) on_ladd
theorem s_31_37 : S31 37 (ia_kl 38 1) := sa_n (snd_lconst dX0_quotient_37 rfl (okL_c rfl) rfl) on_kl
theorem s_31_38 : S31 38 (ia_ladd 39) := sa_n (snd_ladd dX0_quotient_38 rfl) on_ladd
theorem s_31_39 : S31 39 (ia_kl 42 2) := sa_n (snd_ldc2 dX0_quotient_39 q1060 (by decide) (okL_c rfl) rfl) on_kl
theorem s_31_42 : S31 42 (ia_ldiv 43) := sa_n (snd_ldiv dX0_quotient_42 rfl) on_ldiv
theorem s_31_43 : S31 43 (ia_l2i 44) := sa_n (snd_l2i dX0_quotient_43 rfl) on_l2i
theorem s_31_44 : S31 44 (ia_is 46 7) := sa_n (snd_istore dX0_quotient_44 (lt_c rfl) rfl) on_is
theorem s_31_46 : S31 46 (ia_al 47 0) := sa_n (snd_aload_n dX0_quotient_46 rfl rfl) on_al
theorem s_31_47 : S31 47 (ia_gfR 50 1 3) := sa_n (snd_gfR ci_1 (k := 3) (lt_c rfl) dX0_quotient_47 (Or.inl q878) (Or.inl rfl) (fun _ _ _ _ => rfl) rfl rfl) on_gfR
theorem s_31_50 : S31 50 (ia_al 51 3) := sa_n (snd_aload_n dX0_quotient_50 rfl rfl) on_al
theorem s_31_51 : S31 51 (ia_call 54 2 2 79 2) := sk_V me_79 q1055 dX0_quotient_51 rfl
theorem s_31_54 : S31 54 (ia_al 55 0) := sa_n (snd_aload_n dX0_quotient_54 rfl rfl) on_al
theorem s_31_55 : S31 55 (ia_gfR 58 1 3) := sa_n (snd_gfR ci_1 (k := 3) (lt_c rfl) dX0_quotient_55 (Or.inl q878) (Or.inl rfl) (fun _ _ _ _ => rfl) rfl rfl) on_gfR
theorem s_31_58 : S31 58 (ia_il 60 7) := sa_n (snd_iload dX0_quotient_58 rfl) on_il
theorem s_31_60 : S31 60 (ia_call 63 2 2 80 5) := sk_V me_80 q1056 dX0_quotient_60 rfl
theorem s_31_63 : S31 63 (ia_al 64 0) := sa_n (snd_aload_n dX0_quotient_63 rfl rfl) on_al
theorem s_31_64 : S31 64 (ia_gfR 67 1 3) := sa_n (snd_gfR ci_1 (k := 3) (lt_c rfl) dX0_quotient_64 (Or.inl q878) (Or.inl rfl) (fun _ _ _ _ => rfl) rfl rfl) on_gfR
theorem s_31_67 : S31 67 (ia_al 68 0) := sa_n (snd_aload_n dX0_quotient_67 rfl rfl) on_al
theorem s_31_68 : S31 68 (ia_gfR 71 1 2) := sa_n (snd_gfR ci_1 (k := 2) (lt_c rfl) dX0_quotient_68 (Or.inl q876) (Or.inl rfl) (fun _ _ _ _ => rfl) rfl rfl) on_gfR
theorem s_31_71 : S31 71 (ia_call 74 2 2 78 3) := sk_V me_78 q1061 dX0_quotient_71 rfl
theorem s_31_74 : S31 74 (ia_if k0L 77 86) := sa_b (sndB_if_le dX0_quotient_74 rfl rfl) on_if
theorem s_31_77 : S31 77 (ia_il 79 7) := sa_n (snd_iload dX0_quotient_77 rfl) on_il
theorem s_31_79 : S31 79 (ia_k 80 1) := sa_n (snd_iconst dX0_quotient_79 rfl (okI_c rfl) rfl) on_k
theorem s_31_80 : S31 80 (ia_sub 81) := sa_n (snd_isub dX0_quotient_80 rfl) on_sub
theorem s_31_81 : S31 81 (ia_is 83 6) := sa_n (snd_istore dX0_quotient_81 (lt_c rfl) rfl) on_is
theorem s_31_83 : S31 83 (ia_go 90) := sa_n (snd_goto dX0_quotient_83 rfl) on_go
theorem s_31_86 : S31 86 (ia_il 88 7) := sa_n (snd_iload dX0_quotient_86 rfl) on_il
theorem s_31_88 : S31 88 (ia_is 90 5) := sa_n (snd_istore dX0_quotient_88 (lt_c rfl) rfl) on_is
theorem s_31_90 : S31 90 (ia_go 23) := sa_n (snd_goto dX0_quotient_90 rfl) on_go
theorem s_31_93 : S31 93 (ia_il 95 5) := sa_n (snd_iload dX0_quotient_93 rfl) on_il
theorem s_31_95 : S31 95 (ia_retI) := sa_t (st_retI dX0_quotient_95 rfl) on_retI
theorem sa_31 (pc : Nat) : S31 pc (cd_31 pc) := sa_c (sa_c (sa_c (sa_c (sa_c (sa_l s_31_0) (sa_c (sa_l s_31_1) (sa_l s_31_4))) (sa_c (sa_l s_31_5) (sa_c (sa_l s_31_8) (sa_l s_31_9)))) (sa_c (sa_c (sa_l s_31_12) (sa_c (sa_l s_31_13) (sa_l s_31_16))) (sa_c (sa_l s_31_17) (sa_c (sa_l s_31_19) (sa_l s_31_21))))) (sa_c (sa_c (sa_c (sa_l s_31_23) (sa_c (sa_l s_31_25) (sa_l s_31_27))) (sa_c (sa_l s_31_30) (sa_c (sa_l s_31_32) (sa_l s_31_33)))) (sa_c (sa_c (sa_l s_31_35) (sa_c (sa_l s_31_36) (sa_l s_31_37))) (sa_c (sa_c (sa_l s_31_38) (sa_l s_31_39)) (sa_c (sa_l s_31_42) (sa_l s_31_43)))))) (sa_c (sa_c (sa_c (sa_c (sa_l s_31_44) (sa_c (sa_l s_31_46) (sa_l s_31_47))) (sa_c (sa_l s_31_50) (sa_c (sa_l s_31_51) (sa_l s_31_54)))) (sa_c (sa_c (sa_l s_31_55) (sa_c (sa_l s_31_58) (sa_l s_31_60))) (sa_c (sa_l s_31_63) (sa_c (sa_l s_31_64) (sa_l s_31_67))))) (sa_c (sa_c (sa_c (sa_l s_31_68) (sa_c (sa_l s_31_71) (sa_l s_31_74))) (sa_c (sa_l s_31_77) (sa_c (sa_l s_31_79) (sa_l s_31_80)))) (sa_c (sa_c (sa_l s_31_81) (sa_c (sa_l s_31_83) (sa_l s_31_86))) (sa_c (sa_c (sa_l s_31_88) (sa_l s_31_90)) (sa_c (sa_l s_31_93) (sa_l s_31_95))))))
abbrev S32 (pc : Nat) (x : XI) : Prop := SA "WeekFoot" cX0_sure 5 "sure" (some .int) pc x
theorem s_32_0 : S32 0 (ia_al 1 0) := sa_n (snd_aload_n dX0_sure_0 rfl rfl) on_al
theorem s_32_1 : S32 1 (ia_il 2 1) := sa_n (snd_iload_n dX0_sure_1 rfl rfl) on_il
theorem s_32_2 : S32 2 (ia_call 5 2 1 30 2) := sk_V me_30 q1045 dX0_sure_2 rfl
theorem s_32_5 : S32 5 (ia_if k0e 8 26) := sa_b (sndB_if_eq dX0_sure_5 rfl rfl) on_if
theorem s_32_8 : S32 8 (ia_al 9 0) := sa_n (snd_aload_n dX0_sure_8 rfl rfl) on_al
theorem s_32_9 : S32 9 (ia_il 10 2) := sa_n (snd_iload_n dX0_sure_9 rfl rfl) on_il
theorem s_32_10 : S32 10 (ia_call 13 2 1 30 2) := sk_V me_30 q1045 dX0_sure_10 rfl
theorem s_32_13 : S32 13 (ia_if k0e 16 26) := sa_b (sndB_if_eq dX0_sure_13 rfl rfl) on_if
theorem s_32_16 : S32 16 (ia_al 17 0) := sa_n (snd_aload_n dX0_sure_16 rfl rfl) on_al
theorem s_32_17 : S32 17 (ia_gfR 20 1 11) := sa_n (snd_gfR ci_1 (k := 11) (lt_c rfl) dX0_sure_17 (Or.inl q892) (Or.inl rfl) (fun _ _ _ _ => rfl) rfl rfl) on_gfR
theorem s_32_20 : S32 20 (ia_call 23 1 4 88 1) := sk_V me_88 q971 dX0_sure_20 rfl
theorem s_32_23 : S32 23 (ia_if k0n 26 29) := sa_b (sndB_if_ne dX0_sure_23 rfl rfl) on_if
theorem s_32_26 : S32 26 (ia_k 28 (-2)) := sa_n (snd_bipush dX0_sure_26 (by decide) (okI_c rfl) rfl) on_k
theorem s_32_28 : S32 28 (ia_retI) := sa_t (st_retI dX0_sure_28 rfl) on_retI
theorem s_32_29 : S32 29 (ia_al 30 0) := sa_n (snd_aload_n dX0_sure_29 rfl rfl) on_al
theorem s_32_30 : S32 30 (ia_gfR 33 1 11) := sa_n (snd_gfR ci_1 (k := 11) (lt_c rfl) dX0_sure_30 (Or.inl q892) (Or.inl rfl) (fun _ _ _ _ => rfl) rfl rfl) on_gfR
theorem s_32_33 : S32 33 (ia_il 34 1) := sa_n (snd_iload_n dX0_sure_33 rfl rfl) on_il
theorem s_32_34 : S32 34 (ia_il 35 2) := sa_n (snd_iload_n dX0_sure_34 rfl rfl) on_il
theorem s_32_35 : S32 35 (ia_call 38 3 4 96 5) := sk_V me_96 q1066 dX0_sure_35 rfl
theorem s_32_38 : S32 38 (ia_is 39 3) := sa_n (snd_istore_n dX0_sure_38 rfl (lt_c rfl) rfl) on_is
theorem s_32_39 : S32 39 (ia_al 40 0) := sa_n (snd_aload_n dX0_sure_39 rfl rfl) on_al
theorem s_32_40 : S32 40 (ia_gfR 43 1 11) := sa_n (snd_gfR ci_1 (k := 11) (lt_c rfl) dX0_sure_40 (Or.inl q892) (Or.inl rfl) (fun _ _ _ _ => rfl) rfl rfl) on_gfR
theorem s_32_43 : S32 43 (ia_il 44 2) := sa_n (snd_iload_n dX0_sure_43 rfl rfl) on_il
theorem s_32_44 : S32 44 (ia_il 45 1) := sa_n (snd_iload_n dX0_sure_44 rfl rfl) on_il
theorem s_32_45 : S32 45 (ia_call 48 3 4 96 5) := sk_V me_96 q1066 dX0_sure_45 rfl
theorem s_32_48 : S32 48 (ia_is 50 4) := sa_n (snd_istore dX0_sure_48 (lt_c rfl) rfl) on_is
theorem s_32_50 : S32 50 (ia_il 51 3) := sa_n (snd_iload_n dX0_sure_50 rfl rfl) on_il
theorem s_32_51 : S32 51 (ia_k 52 2) := sa_n (snd_iconst dX0_sure_51 rfl (okI_c rfl) rfl) on_k
theorem s_32_52 : S32 52 (ia_ic k2n 55 59) := sa_b (sndB_ic_ne dX0_sure_52 rfl rfl) on_ic
theorem s_32_55 : S32 55 (ia_k 56 1) := sa_n (snd_iconst dX0_sure_55 rfl (okI_c rfl) rfl) on_k
theorem s_32_56 : S32 56 (ia_go 85) := sa_n (snd_goto dX0_sure_56 rfl) on_go
theorem s_32_59 : S32 59 (ia_il 61 4) := sa_n (snd_iload dX0_sure_59 rfl) on_il
theorem s_32_61 : S32 61 (ia_k 62 2) := sa_n (snd_iconst dX0_sure_61 rfl (okI_c rfl) rfl) on_k
theorem s_32_62 : S32 62 (ia_ic k2n 65 69) := sa_b (sndB_ic_ne dX0_sure_62 rfl rfl) on_ic
theorem s_32_65 : S32 65 (ia_k 66 2) := sa_n (snd_iconst dX0_sure_65 rfl (okI_c rfl) rfl) on_k
theorem s_32_66 : S32 66 (ia_go 85) := sa_n (snd_goto dX0_sure_66 rfl) on_go
theorem s_32_69 : S32 69 (ia_il 70 3) := sa_n (snd_iload_n dX0_sure_69 rfl rfl) on_il
theorem s_32_70 : S32 70 (ia_k 71 1) := sa_n (snd_iconst dX0_sure_70 rfl (okI_c rfl) rfl) on_k
theorem s_32_71 : S32 71 (ia_ic k2n 74 84) := sa_b (sndB_ic_ne dX0_sure_71 rfl rfl) on_ic
theorem s_32_74 : S32 74 (ia_il 76 4) := sa_n (snd_iload dX0_sure_74 rfl) on_il
theorem s_32_76 : S32 76 (ia_k 77 1) := sa_n (snd_iconst dX0_sure_76 rfl (okI_c rfl) rfl) on_k
theorem s_32_77 : S32 77 (ia_ic k2n 80 84) := sa_b (sndB_ic_ne dX0_sure_77 rfl rfl) on_ic
theorem s_32_80 : S32 80 (ia_k 81 3) := sa_n (snd_iconst dX0_sure_80 rfl (okI_c rfl) rfl) on_k
theorem s_32_81 : S32 81 (ia_go 85) := sa_n (snd_goto dX0_sure_81 rfl) on_go
theorem s_32_84 : S32 84 (ia_k 85 0) := sa_n (snd_iconst dX0_sure_84 rfl (okI_c rfl) rfl) on_k
theorem s_32_85 : S32 85 (ia_retI) := sa_t (st_retI dX0_sure_85 rfl) on_retI
theorem sa_32 (pc : Nat) : S32 pc (cd_32 pc) := sa_c (sa_c (sa_c (sa_c (sa_c (sa_l s_32_0) (sa_l s_32_1)) (sa_c (sa_l s_32_2) (sa_c (sa_l s_32_5) (sa_l s_32_8)))) (sa_c (sa_c (sa_l s_32_9) (sa_c (sa_l s_32_10) (sa_l s_32_13))) (sa_c (sa_l s_32_16) (sa_c (sa_l s_32_17) (sa_l s_32_20))))) (sa_c (sa_c (sa_c (sa_l s_32_23) (sa_c (sa_l s_32_26) (sa_l s_32_28))) (sa_c (sa_l s_32_29) (sa_c (sa_l s_32_30) (sa_l s_32_33)))) (sa_c (sa_c (sa_l s_32_34) (sa_c (sa_l s_32_35) (sa_l s_32_38))) (sa_c (sa_l s_32_39) (sa_c (sa_l s_32_40) (sa_l s_32_43)))))) (sa_c (sa_c (sa_c (sa_c (sa_l s_32_44) (sa_l s_32_45)) (sa_c (sa_l s_32_48) (sa_c (sa_l s_32_50) (sa_l s_32_51)))) (sa_c (sa_c (sa_l s_32_52) (sa_c (sa_l s_32_55) (sa_l s_32_56))) (sa_c (sa_l s_32_59) (sa_c (sa_l s_32_61) (sa_l s_32_62))))) (sa_c (sa_c (sa_c (sa_l s_32_65) (sa_c (sa_l s_32_66) (sa_l s_32_69))) (sa_c (sa_l s_32_70) (sa_c (sa_l s_32_71) (sa_l s_32_74)))) (sa_c (sa_c (sa_l s_32_76) (sa_c (sa_l s_32_77) (sa_l s_32_80))) (sa_c (sa_l s_32_81) (sa_c (sa_l s_32_84) (sa_l s_32_85))))))
abbrev S33 (pc : Nat) (x : XI) : Prop := SA "WeekFoot" cX0_feet 7 "feet" (some .int) pc x
theorem s_33_0 : S33 0 (ia_il 1 1) := sa_n (snd_iload_n dX0_feet_0 rfl rfl) on_il
theorem s_33_1 : S33 1 (ia_k 2 0) := sa_n (snd_iconst dX0_feet_1 rfl (okI_c rfl) rfl) on_k
theorem s_33_2 : S33 2 (ia_k 4 11) := sa_n (snd_bipush dX0_feet_2 (by decide) (okI_c rfl) rfl) on_k
theorem s_33_4 : S33 4 (ia_stat 7 3 2 3) := sk_S me_2 q138 dX0_feet_4 rfl
theorem s_33_7 : S33 7 (ia_if k0e 10 44) := sa_b (sndB_if_eq dX0_feet_7 rfl rfl) on_if
theorem s_33_10 : S33 10 (ia_al 11 0) := sa_n (snd_aload_n dX0_feet_10 rfl rfl) on_al
theorem s_33_11 : S33 11 (ia_il 12 1) := sa_n (snd_iload_n dX0_feet_11 rfl rfl) on_il
theorem s_33_12 : S33 12 (ia_call 15 2 1 30 2) := sk_V me_30 q1045 dX0_feet_12 rfl
theorem s_33_15 : S33 15 (ia_if k0e 18 44) := sa_b (sndB_if_eq dX0_feet_15 rfl rfl) on_if
theorem s_33_18 : S33 18 (ia_il 19 2) := sa_n (snd_iload_n dX0_feet_18 rfl rfl) on_il
theorem s_33_19 : S33 19 (ia_stat 22 1 9 1) := sk_S me_9 q320 dX0_feet_19 rfl
theorem s_33_22 : S33 22 (ia_if k0e 25 44) := sa_b (sndB_if_eq dX0_feet_22 rfl rfl) on_if
theorem s_33_25 : S33 25 (ia_il 26 3) := sa_n (snd_iload_n dX0_feet_25 rfl rfl) on_il
theorem s_33_26 : S33 26 (ia_k 27 0) := sa_n (snd_iconst dX0_feet_26 rfl (okI_c rfl) rfl) on_k
theorem s_33_27 : S33 27 (ia_k 28 1) := sa_n (snd_iconst dX0_feet_27 rfl (okI_c rfl) rfl) on_k
theorem s_33_28 : S33 28 (ia_stat 31 3 2 3) := sk_S me_2 q138 dX0_feet_28 rfl
theorem s_33_31 : S33 31 (ia_if k0e 34 44) := sa_b (sndB_if_eq dX0_feet_31 rfl rfl) on_if
theorem s_33_34 : S33 34 (ia_al 35 0) := sa_n (snd_aload_n dX0_feet_34 rfl rfl) on_al
theorem s_33_35 : S33 35 (ia_gfR 38 1 11) := sa_n (snd_gfR ci_1 (k := 11) (lt_c rfl) dX0_feet_35 (Or.inl q892) (Or.inl rfl) (fun _ _ _ _ => rfl) rfl rfl) on_gfR
theorem s_33_38 : S33 38 (ia_call 41 1 4 88 1) := sk_V me_88 q971 dX0_feet_38 rfl
theorem s_33_41 : S33 41 (ia_if k0n 44 47) := sa_b (sndB_if_ne dX0_feet_41 rfl rfl) on_if
theorem s_33_44 : S33 44 (ia_k 46 (-2)) := sa_n (snd_bipush dX0_feet_44 (by decide) (okI_c rfl) rfl) on_k
theorem s_33_46 : S33 46 (ia_retI) := sa_t (st_retI dX0_feet_46 rfl) on_retI
theorem s_33_47 : S33 47 (ia_k 49 12) := sa_n (snd_bipush dX0_feet_47 (by decide) (okI_c rfl) rfl) on_k
theorem s_33_49 : S33 49 (ia_il 50 2) := sa_n (snd_iload_n dX0_feet_49 rfl rfl) on_il
theorem s_33_50 : S33 50 (ia_add 51) := sa_n (snd_iadd dX0_feet_50 rfl) on_add
theorem s_33_51 : S33 51 (ia_is 53 4) := sa_n (snd_istore dX0_feet_51 (lt_c rfl) rfl) on_is
theorem s_33_53 : S33 53 (ia_il 54 3) := sa_n (snd_iload_n dX0_feet_53 rfl rfl) on_il
theorem s_33_54 : S33 54 (ia_if k0n 57 67) := sa_b (sndB_if_ne dX0_feet_54 rfl rfl) on_if
theorem s_33_57 : S33 57 (ia_k 59 16) := sa_n (snd_bipush dX0_feet_57 (by decide) (okI_c rfl) rfl) on_k
theorem s_33_59 : S33 59 (ia_il 60 1) := sa_n (snd_iload_n dX0_feet_59 rfl rfl) on_il
theorem s_33_60 : S33 60 (ia_mul 61) := sa_n (snd_imul dX0_feet_60 rfl) on_mul
theorem s_33_61 : S33 61 (ia_il 63 4) := sa_n (snd_iload dX0_feet_61 rfl) on_il
theorem s_33_63 : S33 63 (ia_add 64) := sa_n (snd_iadd dX0_feet_63 rfl) on_add
theorem s_33_64 : S33 64 (ia_go 74) := sa_n (snd_goto dX0_feet_64 rfl) on_go
theorem s_33_67 : S33 67 (ia_k 69 16) := sa_n (snd_bipush dX0_feet_67 (by decide) (okI_c rfl) rfl) on_k
theorem s_33_69 : S33 69 (ia_il 71 4) := sa_n (snd_iload dX0_feet_69 rfl) on_il
theorem s_33_71 : S33 71 (ia_mul 72) := sa_n (snd_imul dX0_feet_71 rfl) on_mul
theorem s_33_72 : S33 72 (ia_il 73 1) := sa_n (snd_iload_n dX0_feet_72 rfl rfl) on_il
theorem s_33_73 : S33 73 (ia_add 74) := sa_n (snd_iadd dX0_feet_73 rfl) on_add
theorem s_33_74 : S33 74 (ia_is 76 5) := sa_n (snd_istore dX0_feet_74 (lt_c rfl) rfl) on_is
theorem s_33_76 : S33 76 (ia_al 77 0) := sa_n (snd_aload_n dX0_feet_76 rfl rfl) on_al
theorem s_33_77 : S33 77 (ia_gfR 80 1 11) := sa_n (snd_gfR ci_1 (k := 11) (lt_c rfl) dX0_feet_77 (Or.inl q892) (Or.inl rfl) (fun _ _ _ _ => rfl) rfl rfl) on_gfR
theorem s_33_80 : S33 80 (ia_gfR 83 4 4) := sa_n (snd_gfR ci_4 (k := 4) (lt_c rfl) dX0_feet_80 (Or.inr ⟨_, q787⟩) (Or.inl rfl) (fun _ _ _ _ => rfl) rfl rfl) on_gfR
theorem s_33_83 : S33 83 (ia_il 85 5) := sa_n (snd_iload dX0_feet_83 rfl) on_il
theorem s_33_85 : S33 85 (ia_ldI 86 101) := sa_n (snd_zaload dX0_feet_85 rfl) on_ldI
theorem s_33_86 : S33 86 (ia_if k0n 89 99) := sa_b (sndB_if_ne dX0_feet_86 rfl rfl) on_if
theorem s_33_89 : S33 89 (ia_il 90 3) := sa_n (snd_iload_n dX0_feet_89 rfl rfl) on_il
theorem s_33_90 : S33 90 (ia_if k0n 93 97) := sa_b (sndB_if_ne dX0_feet_90 rfl rfl) on_if
theorem s_33_93 : S33 93 (ia_k 94 0) := sa_n (snd_iconst dX0_feet_93 rfl (okI_c rfl) rfl) on_k
theorem s_33_94 : S33 94 (ia_go 98) := sa_n (snd_goto dX0_feet_94 rfl) on_go
theorem s_33_97 : S33 97 (ia_k 98 (-1)) := sa_n (snd_iconst dX0_feet_97 rfl (okI_c rfl) rfl) on_k
theorem s_33_98 : S33 98 (ia_retI) := sa_t (st_retI dX0_feet_98 rfl) on_retI
theorem s_33_99 : S33 99 (ia_il 100 3) := sa_n (snd_iload_n dX0_feet_99 rfl rfl) on_il
theorem s_33_100 : S33 100 (ia_if k0n 103 132) := sa_b (sndB_if_ne dX0_feet_100 rfl rfl) on_if
theorem s_33_103 : S33 103 (ia_al 104 0) := sa_n (snd_aload_n dX0_feet_103 rfl rfl) on_al
theorem s_33_104 : S33 104 (ia_al 105 0) := sa_n (snd_aload_n dX0_feet_104 rfl rfl) on_al
theorem s_33_105 : S33 105 (ia_gfR 108 1 11) := sa_n (snd_gfR ci_1 (k := 11) (lt_c rfl) dX0_feet_105 (Or.inl q892) (Or.inl rfl) (fun _ _ _ _ => rfl) rfl rfl) on_gfR
theorem s_33_108 : S33 108 (ia_gfR 111 4 0) := sa_n (snd_gfR ci_4 (k := 0) (lt_c rfl) dX0_feet_108 (Or.inr ⟨_, q781⟩) (Or.inl rfl) (fun _ _ _ _ => rfl) rfl rfl) on_gfR
theorem s_33_111 : S33 111 (ia_il 113 5) := sa_n (snd_iload dX0_feet_111 rfl) on_il
theorem s_33_113 : S33 113 (ia_ldR 114 106) := sa_n (snd_aaload (by decide) dX0_feet_113 rfl) on_ldR
theorem s_33_114 : S33 114 (ia_k 115 1) := sa_n (snd_iconst dX0_feet_114 rfl (okI_c rfl) rfl) on_k
theorem s_33_115 : S33 115 (ia_al 116 0) := sa_n (snd_aload_n dX0_feet_115 rfl rfl) on_al
theorem s_33_116 : S33 116 (ia_gfR 119 1 11) := sa_n (snd_gfR ci_1 (k := 11) (lt_c rfl) dX0_feet_116 (Or.inl q892) (Or.inl rfl) (fun _ _ _ _ => rfl) rfl rfl) on_gfR
theorem s_33_119 : S33 119 (ia_gfR 122 4 1) := sa_n (snd_gfR ci_4 (k := 1) (lt_c rfl) dX0_feet_119 (Or.inr ⟨_, q783⟩) (Or.inl rfl) (fun _ _ _ _ => rfl) rfl rfl) on_gfR
theorem s_33_122 : S33 122 (ia_il 124 5) := sa_n (snd_iload dX0_feet_122 rfl) on_il
theorem s_33_124 : S33 124 (ia_ldR 125 106) := sa_n (snd_aaload (by decide) dX0_feet_124 rfl) on_ldR
theorem s_33_125 : S33 125 (ia_k 128 2000) := sa_n (snd_sipush dX0_feet_125 (by decide) (okI_c rfl) rfl) on_k
theorem s_33_128 : S33 128 (ia_call 131 5 1 31 8) := sk_V me_31 q1051 dX0_feet_128 rfl
theorem s_33_131 : S33 131 (ia_retI) := sa_t (st_retI dX0_feet_131 rfl) on_retI
theorem s_33_132 : S33 132 (ia_al 133 0) := sa_n (snd_aload_n dX0_feet_132 rfl rfl) on_al
theorem s_33_133 : S33 133 (ia_al 134 0) := sa_n (snd_aload_n dX0_feet_133 rfl rfl) on_al
theorem s_33_134 : S33 134 (ia_gfR 137 1 11) := sa_n (snd_gfR ci_1 (k := 11) (lt_c rfl) dX0_feet_134 (Or.inl q892) (Or.inl rfl) (fun _ _ _ _ => rfl) rfl rfl) on_gfR
theorem s_33_137 : S33 137 (ia_gfR 140 4 1) := sa_n (snd_gfR ci_4 (k := 1) (lt_c rfl) dX0_feet_137 (Or.inr ⟨_, q783⟩) (Or.inl rfl) (fun _ _ _ _ => rfl) rfl rfl) on_gfR
theorem s_33_140 : S33 140 (ia_il 142 5) := sa_n (snd_iload dX0_feet_140 rfl) on_il
theorem s_33_142 : S33 142 (ia_ldR 143 106) := sa_n (snd_aaload (by decide) dX0_feet_142 rfl) on_ldR
theorem s_33_143 : S33 143 (ia_k 144 1) := sa_n (snd_iconst dX0_feet_143 rfl (okI_c rfl) rfl) on_k
theorem s_33_144 : S33 144 (ia_al 145 0) := sa_n (snd_aload_n dX0_feet_144 rfl rfl) on_al
theorem s_33_145 : S33 145 (ia_gfR 148 1 11) := sa_n (snd_gfR ci_1 (k := 11) (lt_c rfl) dX0_feet_145 (Or.inl q892) (Or.inl rfl) (fun _ _ _ _ => rfl) rfl rfl) on_gfR
theorem s_33_148 : S33 148 (ia_gfR 151 4 0) := sa_n (snd_gfR ci_4 (k := 0) (lt_c rfl) dX0_feet_148 (Or.inr ⟨_, q781⟩) (Or.inl rfl) (fun _ _ _ _ => rfl) rfl rfl) on_gfR
theorem s_33_151 : S33 151 (ia_il 153 5) := sa_n (snd_iload dX0_feet_151 rfl) on_il
theorem s_33_153 : S33 153 (ia_ldR 154 106) := sa_n (snd_aaload (by decide) dX0_feet_153 rfl) on_ldR
theorem s_33_154 : S33 154 (ia_k 157 2001) := sa_n (snd_sipush dX0_feet_154 (by decide) (okI_c rfl) rfl) on_k
theorem s_33_157 : S33 157 (ia_call 160 5 1 31 8) := sk_V me_31 q1051 dX0_feet_157 rfl
theorem s_33_160 : S33 160 (ia_is 162 6) := sa_n (snd_istore dX0_feet_160 (lt_c rfl) rfl) on_is
theorem s_33_162 : S33 162 (ia_al 163 0) := sa_n (snd_aload_n dX0_feet_162 rfl rfl) on_al
theorem s_33_163 : S33 163 (ia_gfR 166 1 3) := sa_n (snd_gfR ci_1 (k := 3) (lt_c rfl) dX0_feet_163 (Or.inl q878) (Or.inl rfl) (fun _ _ _ _ => rfl) rfl rfl) on_gfR
theorem s_33_166 : S33 166 (ia_al 167 0) := sa_n (snd_aload_n dX0_feet_166 rfl rfl) on_al
theorem s_33_167 : S33 167 (ia_gfR 170 1 11) := sa_n (snd_gfR ci_1 (k := 11) (lt_c rfl) dX0_feet_167 (Or.inl q892) (Or.inl rfl) (fun _ _ _ _ => rfl) rfl rfl) on_gfR
theorem s_33_170 : S33 170 (ia_gfR 173 4 0) := sa_n (snd_gfR ci_4 (k := 0) (lt_c rfl) dX0_feet_170 (Or.inr ⟨_, q781⟩) (Or.inl rfl) (fun _ _ _ _ => rfl) rfl rfl) on_gfR
theorem s_33_173 : S33 173 (ia_il 175 5) := sa_n (snd_iload dX0_feet_173 rfl) on_il
theorem s_33_175 : S33 175 (ia_ldR 176 106) := sa_n (snd_aaload (by decide) dX0_feet_175 rfl) on_ldR
theorem s_33_176 : S33 176 (ia_call 179 2 2 79 2) := sk_V me_79 q1055 dX0_feet_176 rfl
theorem s_33_179 : S33 179 (ia_al 180 0) := sa_n (snd_aload_n dX0_feet_179 rfl rfl) on_al
theorem s_33_180 : S33 180 (ia_gfR 183 1 3) := sa_n (snd_gfR ci_1 (k := 3) (lt_c rfl) dX0_feet_180 (Or.inl q878) (Or.inl rfl) (fun _ _ _ _ => rfl) rfl rfl) on_gfR
theorem s_33_183 : S33 183 (ia_il 185 6) := sa_n (snd_iload dX0_feet_183 rfl) on_il
theorem s_33_185 : S33 185 (ia_call 188 2 2 80 5) := sk_V me_80 q1056 dX0_feet_185 rfl
theorem s_33_188 : S33 188 (ia_k 191 2000) := sa_n (snd_sipush dX0_feet_188 (by decide) (okI_c rfl) rfl) on_k
theorem s_33_191 : S33 191 (ia_al 192 0) := sa_n (snd_aload_n dX0_feet_191 rfl rfl) on_al
theorem s_33_192 : S33 192 (ia_gfR 195 1 11) := sa_n (snd_gfR ci_1 (k := 11) (lt_c rfl) dX0_feet_192 (Or.inl q892) (Or.inl rfl) (fun _ _ _ _ => rfl) rfl rfl) on_gfR
theorem s_33_195 : S33 195 (ia_gfR 198 4 5) := sa_n (snd_gfR ci_4 (k := 5) (lt_c rfl) dX0_feet_195 (Or.inr ⟨_, q789⟩) (Or.inl rfl) (fun _ _ _ _ => rfl) rfl rfl) on_gfR
theorem s_33_198 : S33 198 (ia_il 200 5) := sa_n (snd_iload dX0_feet_198 rfl) on_il
theorem s_33_200 : S33 200 (ia_ldI 201 101) := sa_n (snd_zaload dX0_feet_200 rfl) on_ldI
theorem s_33_201 : S33 201 (ia_if k0e 204 231) := sa_b (sndB_if_eq dX0_feet_201 rfl rfl) on_if
theorem s_33_204 : S33 204 (ia_al 205 0) := sa_n (snd_aload_n dX0_feet_204 rfl rfl) on_al
theorem s_33_205 : S33 205 (ia_gfR 208 1 3) := sa_n (snd_gfR ci_1 (k := 3) (lt_c rfl) dX0_feet_205 (Or.inl q878) (Or.inl rfl) (fun _ _ _ _ => rfl) rfl rfl) on_gfR
theorem s_33_208 : S33 208 (ia_al 209 0) := sa_n (snd_aload_n dX0_feet_208 rfl rfl) on_al
theorem s_33_209 : S33 209 (ia_gfR 212 1 11) := sa_n (snd_gfR ci_1 (k := 11) (lt_c rfl) dX0_feet_209 (Or.inl q892) (Or.inl rfl) (fun _ _ _ _ => rfl) rfl rfl) on_gfR
theorem s_33_212 : S33 212 (ia_gfR 215 4 1) := sa_n (snd_gfR ci_4 (k := 1) (lt_c rfl) dX0_feet_212 (Or.inr ⟨_, q783⟩) (Or.inl rfl) (fun _ _ _ _ => rfl) rfl rfl) on_gfR
theorem s_33_215 : S33 215 (ia_il 217 5) := sa_n (snd_iload dX0_feet_215 rfl) on_il
theorem s_33_217 : S33 217 (ia_ldR 218 106) := sa_n (snd_aaload (by decide) dX0_feet_217 rfl) on_ldR
theorem s_33_218 : S33 218 (ia_call 221 2 2 78 3) := sk_V me_78 q1061 dX0_feet_218 rfl
theorem s_33_221 : S33 221 (ia_if k0n 224 231) := sa_b (sndB_if_ne dX0_feet_221 rfl rfl) on_if
theorem s_33_224 : S33 224 (ia_il 226 6) := sa_n (snd_iload dX0_feet_224 rfl) on_il
theorem s_33_226 : S33 226 (ia_k 227 1) := sa_n (snd_iconst dX0_feet_226 rfl (okI_c rfl) rfl) on_k
theorem s_33_227 : S33 227 (ia_sub 228) := sa_n (snd_isub dX0_feet_227 rfl) on_sub
theorem s_33_228 : S33 228 (ia_go 233) := sa_n (snd_goto dX0_feet_228 rfl) on_go
theorem s_33_231 : S33 231 (ia_il 233 6) := sa_n (snd_iload dX0_feet_231 rfl) on_il
theorem s_33_233 : S33 233 (ia_stat 236 2 262 2) := sk_S me_262 q1074 dX0_feet_233 rfl
theorem s_33_236 : S33 236 (ia_retI) := sa_t (st_retI dX0_feet_236 rfl) on_retI
theorem sa_33_0 (pc : Nat) : S33 pc (cd_33_0 pc) := sa_c (sa_c (sa_c (sa_c (sa_c (sa_l s_33_0) (sa_c (sa_l s_33_1) (sa_l s_33_2))) (sa_c (sa_c (sa_l s_33_4) (sa_l s_33_7)) (sa_c (sa_l s_33_10) (sa_l s_33_11)))) (sa_c (sa_c (sa_c (sa_l s_33_12) (sa_l s_33_15)) (sa_c (sa_l s_33_18) (sa_l s_33_19))) (sa_c (sa_c (sa_l s_33_22) (sa_l s_33_25)) (sa_c (sa_l s_33_26) (sa_l s_33_27))))) (sa_c (sa_c (sa_c (sa_l s_33_28) (sa_c (sa_l s_33_31) (sa_l s_33_34))) (sa_c (sa_c (sa_l s_33_35) (sa_l s_33_38)) (sa_c (sa_l s_33_41) (sa_l s_33_44)))) (sa_c (sa_c (sa_c (sa_l s_33_46) (sa_l s_33_47)) (sa_c (sa_l s_33_49) (sa_l s_33_50))) (sa_c (sa_c (sa_l s_33_51) (sa_l s_33_53)) (sa_c (sa_l s_33_54) (sa_l s_33_57)))))) (sa_c (sa_c (sa_c (sa_c (sa_l s_33_59) (sa_c (sa_l s_33_60) (sa_l s_33_61))) (sa_c (sa_c (sa_l s_33_63) (sa_l s_33_64)) (sa_c (sa_l s_33_67) (sa_l s_33_69)))) (sa_c (sa_c (sa_c (sa_l s_33_71) (sa_l s_33_72)) (sa_c (sa_l s_33_73) (sa_l s_33_74))) (sa_c (sa_c (sa_l s_33_76) (sa_l s_33_77)) (sa_c (sa_l s_33_80) (sa_l s_33_83))))) (sa_c (sa_c (sa_c (sa_l s_33_85) (sa_c (sa_l s_33_86) (sa_l s_33_89))) (sa_c (sa_c (sa_l s_33_90) (sa_l s_33_93)) (sa_c (sa_l s_33_94) (sa_l s_33_97)))) (sa_c (sa_c (sa_c (sa_l s_33_98) (sa_l s_33_99)) (sa_c (sa_l s_33_100) (sa_l s_33_103))) (sa_c (sa_c (sa_l s_33_104) (sa_l s_33_105)) (sa_c (sa_l s_33_108) (sa_l s_33_111))))))
theorem sa_33_1 (pc : Nat) : S33 pc (cd_33_1 pc) := sa_c (sa_c (sa_c (sa_c (sa_c (sa_l s_33_113) (sa_c (sa_l s_33_114) (sa_l s_33_115))) (sa_c (sa_c (sa_l s_33_116) (sa_l s_33_119)) (sa_c (sa_l s_33_122) (sa_l s_33_124)))) (sa_c (sa_c (sa_c (sa_l s_33_125) (sa_l s_33_128)) (sa_c (sa_l s_33_131) (sa_l s_33_132))) (sa_c (sa_c (sa_l s_33_133) (sa_l s_33_134)) (sa_c (sa_l s_33_137) (sa_l s_33_140))))) (sa_c (sa_c (sa_c (sa_l s_33_142) (sa_c (sa_l s_33_143) (sa_l s_33_144))) (sa_c (sa_c (sa_l s_33_145) (sa_l s_33_148)) (sa_c (sa_l s_33_151) (sa_l s_33_153)))) (sa_c (sa_c (sa_c (sa_l s_33_154) (sa_l s_33_157)) (sa_c (sa_l s_33_160) (sa_l s_33_162))) (sa_c (sa_c (sa_l s_33_163) (sa_l s_33_166)) (sa_c (sa_l s_33_167) (sa_l s_33_170)))))) (sa_c (sa_c (sa_c (sa_c (sa_l s_33_173) (sa_c (sa_l s_33_175) (sa_l s_33_176))) (sa_c (sa_c (sa_l s_33_179) (sa_l s_33_180)) (sa_c (sa_l s_33_183) (sa_l s_33_185)))) (sa_c (sa_c (sa_c (sa_l s_33_188) (sa_l s_33_191)) (sa_c (sa_l s_33_192) (sa_l s_33_195))) (sa_c (sa_c (sa_l s_33_198) (sa_l s_33_200)) (sa_c (sa_l s_33_201) (sa_l s_33_204))))) (sa_c (sa_c (sa_c (sa_l s_33_205) (sa_c (sa_l s_33_208) (sa_l s_33_209))) (sa_c (sa_c (sa_l s_33_212) (sa_l s_33_215)) (sa_c (sa_l s_33_217) (sa_l s_33_218)))) (sa_c (sa_c (sa_c (sa_l s_33_221) (sa_l s_33_224)) (sa_c (sa_l s_33_226) (sa_l s_33_227))) (sa_c (sa_c (sa_l s_33_228) (sa_l s_33_231)) (sa_c (sa_l s_33_233) (sa_l s_33_236))))))
theorem sa_33 (pc : Nat) : S33 pc (cd_33 pc) := sa_c (sa_33_0 pc) (sa_33_1 pc)
abbrev S34 (pc : Nat) (x : XI) : Prop := SA "WeekFoot" cX0_part 11 "part" (some .long) pc x
theorem s_34_0 : S34 0 (ia_al 1 0) := sa_n (snd_aload_n dX0_part_0 rfl rfl) on_al
theorem s_34_1 : S34 1 (ia_il 2 1) := sa_n (snd_iload_n dX0_part_1 rfl rfl) on_il
theorem s_34_2 : S34 2 (ia_call 5 2 1 30 2) := sk_V me_30 q1045 dX0_part_2 rfl
theorem s_34_5 : S34 5 (ia_if k0e 8 35) := sa_b (sndB_if_eq dX0_part_5 rfl rfl) on_if
theorem s_34_8 : S34 8 (ia_al 9 0) := sa_n (snd_aload_n dX0_part_8 rfl rfl) on_al
theorem s_34_9 : S34 9 (ia_il 10 2) := sa_n (snd_iload_n dX0_part_9 rfl rfl) on_il
theorem s_34_10 : S34 10 (ia_call 13 2 1 30 2) := sk_V me_30 q1045 dX0_part_10 rfl
theorem s_34_13 : S34 13 (ia_if k0e 16 35) := sa_b (sndB_if_eq dX0_part_13 rfl rfl) on_if
theorem s_34_16 : S34 16 (ia_il 17 3) := sa_n (snd_iload_n dX0_part_16 rfl rfl) on_il
theorem s_34_17 : S34 17 (ia_k 18 0) := sa_n (snd_iconst dX0_part_17 rfl (okI_c rfl) rfl) on_k
theorem s_34_18 : S34 18 (ia_k 19 1) := sa_n (snd_iconst dX0_part_18 rfl (okI_c rfl) rfl) on_k
theorem s_34_19 : S34 19 (ia_stat 22 3 2 3) := sk_S me_2 q138 dX0_part_19 rfl
theorem s_34_22 : S34 22 (ia_if k0e 25 35) := sa_b (sndB_if_eq dX0_part_22 rfl rfl) on_if
theorem s_34_25 : S34 25 (ia_al 26 0) := sa_n (snd_aload_n dX0_part_25 rfl rfl) on_al
theorem s_34_26 : S34 26 (ia_gfR 29 1 11) := sa_n (snd_gfR ci_1 (k := 11) (lt_c rfl) dX0_part_26 (Or.inl q892) (Or.inl rfl) (fun _ _ _ _ => rfl) rfl rfl) on_gfR
theorem s_34_29 : S34 29 (ia_call 32 1 4 88 1) := sk_V me_88 q971 dX0_part_29 rfl
theorem s_34_32 : S34 32 (ia_if k0n 35 39) := sa_b (sndB_if_ne dX0_part_32 rfl rfl) on_if
theorem s_34_35 : S34 35 (ia_kl 38 (-2)) := sa_n (snd_ldc2 dX0_part_35 q1079 (by decide) (okL_c rfl) rfl) on_kl
theorem s_34_38 : S34 38 (ia_retL) := sa_t (st_retL dX0_part_38 rfl) on_retL
theorem s_34_39 : S34 39 (ia_al 40 0) := sa_n (snd_aload_n dX0_part_39 rfl rfl) on_al
theorem s_34_40 : S34 40 (ia_il 41 1) := sa_n (snd_iload_n dX0_part_40 rfl rfl) on_il
theorem s_34_41 : S34 41 (ia_il 42 2) := sa_n (snd_iload_n dX0_part_41 rfl rfl) on_il
theorem s_34_42 : S34 42 (ia_call 45 3 1 35 5) := sk_V me_35 q1080 dX0_part_42 rfl
theorem s_34_45 : S34 45 (ia_if k0n 48 50) := sa_b (sndB_if_ne dX0_part_45 rfl rfl) on_if
theorem s_34_48 : S34 48 (ia_kl 49 0) := sa_n (snd_lconst dX0_part_48 rfl (okL_c rfl) rfl) on_kl
theorem s_34_49 : S34 49 (ia_retL) := sa_t (st_retL dX0_part_49 rfl) on_retL
theorem s_34_50 : S34 50 (ia_k 52 16) := sa_n (snd_bipush dX0_part_50 (by decide) (okI_c rfl) rfl) on_k
theorem s_34_52 : S34 52 (ia_il 53 1) := sa_n (snd_iload_n dX0_part_52 rfl rfl) on_il
theorem s_34_53 : S34 53 (ia_mul 54) := sa_n (snd_imul dX0_part_53 rfl) on_mul
theorem s_34_54 : S34 54 (ia_il 55 2) := sa_n (snd_iload_n dX0_part_54 rfl rfl) on_il
theorem s_34_55 : S34 55 (ia_add 56) := sa_n (snd_iadd dX0_part_55 rfl) on_add
theorem s_34_56 : S34 56 (ia_is 58 4) := sa_n (snd_istore dX0_part_56 (lt_c rfl) rfl) on_is
theorem s_34_58 : S34 58 (ia_al 59 0) := sa_n (snd_aload_n dX0_part_58 rfl rfl) on_al
theorem s_34_59 : S34 59 (ia_gfR 62 1 11) := sa_n (snd_gfR ci_1 (k := 11) (lt_c rfl) dX0_part_59 (Or.inl q892) (Or.inl rfl) (fun _ _ _ _ => rfl) rfl rfl) on_gfR
theorem s_34_62 : S34 62 (ia_gfR 65 4 0) := sa_n (snd_gfR ci_4 (k := 0) (lt_c rfl) dX0_part_62 (Or.inr ⟨_, q781⟩) (Or.inl rfl) (fun _ _ _ _ => rfl) rfl rfl) on_gfR
theorem s_34_65 : S34 65 (ia_il 67 4) := sa_n (snd_iload dX0_part_65 rfl) on_il
theorem s_34_67 : S34 67 (ia_ldR 68 106) := sa_n (snd_aaload (by decide) dX0_part_67 rfl) on_ldR
theorem s_34_68 : S34 68 (ia_stat 71 1 36 1) := sk_S me_36 q1085 dX0_part_68 rfl
theorem s_34_71 : S34 71 (ia_ls 73 5) := sa_n (snd_lstore dX0_part_71 (lt_c rfl) rfl) on_ls
theorem s_34_73 : S34 73 (ia_al 74 0) := sa_n (snd_aload_n dX0_part_73 rfl rfl) on_al
theorem s_34_74 : S34 74 (ia_gfR 77 1 11) := sa_n (snd_gfR ci_1 (k := 11) (lt_c rfl) dX0_part_74 (Or.inl q892) (Or.inl rfl) (fun _ _ _ _ => rfl) rfl rfl) on_gfR
theorem s_34_77 : S34 77 (ia_gfR 80 4 1) := sa_n (snd_gfR ci_4 (k := 1) (lt_c rfl) dX0_part_77 (Or.inr ⟨_, q783⟩) (Or.inl rfl) (fun _ _ _ _ => rfl) rfl rfl) on_gfR
theorem s_34_80 : S34 80 (ia_il 82 4) := sa_n (snd_iload dX0_part_80 rfl) on_il
theorem s_34_82 : S34 82 (ia_ldR 83 106) := sa_n (snd_aaload (by decide) dX0_part_82 rfl) on_ldR
theorem s_34_83 : S34 83 (ia_stat 86 1 36 1) := sk_S me_36 q1085 dX0_part_83 rfl
theorem s_34_86 : S34 86 (ia_ls 88 7) := sa_n (snd_lstore dX0_part_86 (lt_c rfl) rfl) on_ls
theorem s_34_88 : S34 88 (ia_ll 90 5) := sa_n (snd_lload dX0_part_88 rfl) on_ll
theorem s_34_90 : S34 90 (ia_ll 92 7) := sa_n (snd_lload dX0_part_90 rfl) on_ll
theorem s_34_92 : S34 92 (ia_stat 95 2 37 4) := sk_S me_37 q1089 dX0_part_92 rfl
theorem s_34_95 : S34 95 (ia_ls 97 9) := sa_n (snd_lstore dX0_part_95 (lt_c rfl) rfl) on_ls
theorem s_34_97 : S34 97 (ia_il 98 3) := sa_n (snd_iload_n dX0_part_97 rfl rfl) on_il
theorem s_34_98 : S34 98 (ia_if k0n 101 109) := sa_b (sndB_if_ne dX0_part_98 rfl rfl) on_if
theorem s_34_101 : S34 101 (ia_ll 103 5) := sa_n (snd_lload dX0_part_101 rfl) on_ll
theorem s_34_103 : S34 103 (ia_ll 105 9) := sa_n (snd_lload dX0_part_103 rfl) on_ll
theorem s_34_105 : S34 105 (ia_ldiv 106) := sa_n (snd_ldiv dX0_part_105 rfl) on_ldiv
theorem s_34_106 : S34 106 (ia_go 114) := sa_n (snd_goto dX0_part_106 rfl) on_go
theorem s_34_109 : S34 109 (ia_ll 111 7) := sa_n (snd_lload dX0_part_109 rfl) on_ll
theorem s_34_111 : S34 111 (ia_ll 113 9) := sa_n (snd_lload dX0_part_111 rfl) on_ll
theorem s_34_113 : S34 113 (ia_ldiv 114) := sa_n (snd_ldiv dX0_part_113 rfl) on_ldiv
theorem s_34_114 : S34 114 (ia_retL) := sa_t (st_retL dX0_part_114 rfl) on_retL
theorem sa_34 (pc : Nat) : S34 pc (cd_34 pc) := sa_c (sa_c (sa_c (sa_c (sa_c (sa_l s_34_0) (sa_c (sa_l s_34_1) (sa_l s_34_2))) (sa_c (sa_c (sa_l s_34_5) (sa_l s_34_8)) (sa_c (sa_l s_34_9) (sa_l s_34_10)))) (sa_c (sa_c (sa_c (sa_l s_34_13) (sa_l s_34_16)) (sa_c (sa_l s_34_17) (sa_l s_34_18))) (sa_c (sa_c (sa_l s_34_19) (sa_l s_34_22)) (sa_c (sa_l s_34_25) (sa_l s_34_26))))) (sa_c (sa_c (sa_c (sa_l s_34_29) (sa_c (sa_l s_34_32) (sa_l s_34_35))) (sa_c (sa_c (sa_l s_34_38) (sa_l s_34_39)) (sa_c (sa_l s_34_40) (sa_l s_34_41)))) (sa_c (sa_c (sa_c (sa_l s_34_42) (sa_l s_34_45)) (sa_c (sa_l s_34_48) (sa_l s_34_49))) (sa_c (sa_c (sa_l s_34_50) (sa_l s_34_52)) (sa_c (sa_l s_34_53) (sa_l s_34_54)))))) (sa_c (sa_c (sa_c (sa_c (sa_l s_34_55) (sa_c (sa_l s_34_56) (sa_l s_34_58))) (sa_c (sa_c (sa_l s_34_59) (sa_l s_34_62)) (sa_c (sa_l s_34_65) (sa_l s_34_67)))) (sa_c (sa_c (sa_c (sa_l s_34_68) (sa_l s_34_71)) (sa_c (sa_l s_34_73) (sa_l s_34_74))) (sa_c (sa_c (sa_l s_34_77) (sa_l s_34_80)) (sa_c (sa_l s_34_82) (sa_l s_34_83))))) (sa_c (sa_c (sa_c (sa_l s_34_86) (sa_c (sa_l s_34_88) (sa_l s_34_90))) (sa_c (sa_c (sa_l s_34_92) (sa_l s_34_95)) (sa_c (sa_l s_34_97) (sa_l s_34_98)))) (sa_c (sa_c (sa_c (sa_l s_34_101) (sa_l s_34_103)) (sa_c (sa_l s_34_105) (sa_l s_34_106))) (sa_c (sa_c (sa_l s_34_109) (sa_l s_34_111)) (sa_c (sa_l s_34_113) (sa_l s_34_114))))))
abbrev S35 (pc : Nat) (x : XI) : Prop := SA "WeekFoot" cX0_isSame 5 "isSame" (some .boolean) pc x
theorem s_35_0 : S35 0 (ia_k 2 16) := sa_n (snd_bipush dX0_isSame_0 (by decide) (okI_c rfl) rfl) on_k
theorem s_35_2 : S35 2 (ia_il 3 1) := sa_n (snd_iload_n dX0_isSame_2 rfl rfl) on_il
theorem s_35_3 : S35 3 (ia_mul 4) := sa_n (snd_imul dX0_isSame_3 rfl) on_mul
theorem s_35_4 : S35 4 (ia_il 5 2) := sa_n (snd_iload_n dX0_isSame_4 rfl rfl) on_il
theorem s_35_5 : S35 5 (ia_add 6) := sa_n (snd_iadd dX0_isSame_5 rfl) on_add
theorem s_35_6 : S35 6 (ia_is 7 3) := sa_n (snd_istore_n dX0_isSame_6 rfl (lt_c rfl) rfl) on_is
theorem s_35_7 : S35 7 (ia_k 9 16) := sa_n (snd_bipush dX0_isSame_7 (by decide) (okI_c rfl) rfl) on_k
theorem s_35_9 : S35 9 (ia_il 10 2) := sa_n (snd_iload_n dX0_isSame_9 rfl rfl) on_il
theorem s_35_10 : S35 10 (ia_mul 11) := sa_n (snd_imul dX0_isSame_10 rfl) on_mul
theorem s_35_11 : S35 11 (ia_il 12 1) := sa_n (snd_iload_n dX0_isSame_11 rfl rfl) on_il
theorem s_35_12 : S35 12 (ia_add 13) := sa_n (snd_iadd dX0_isSame_12 rfl) on_add
theorem s_35_13 : S35 13 (ia_is 15 4) := sa_n (snd_istore dX0_isSame_13 (lt_c rfl) rfl) on_is
theorem s_35_15 : S35 15 (ia_al 16 0) := sa_n (snd_aload_n dX0_isSame_15 rfl rfl) on_al
theorem s_35_16 : S35 16 (ia_gfR 19 1 11) := sa_n (snd_gfR ci_1 (k := 11) (lt_c rfl) dX0_isSame_16 (Or.inl q892) (Or.inl rfl) (fun _ _ _ _ => rfl) rfl rfl) on_gfR
theorem s_35_19 : S35 19 (ia_gfR 22 4 4) := sa_n (snd_gfR ci_4 (k := 4) (lt_c rfl) dX0_isSame_19 (Or.inr ⟨_, q787⟩) (Or.inl rfl) (fun _ _ _ _ => rfl) rfl rfl) on_gfR
theorem s_35_22 : S35 22 (ia_il 23 3) := sa_n (snd_iload_n dX0_isSame_22 rfl rfl) on_il
theorem s_35_23 : S35 23 (ia_ldI 24 101) := sa_n (snd_zaload dX0_isSame_23 rfl) on_ldI
theorem s_35_24 : S35 24 (ia_if k0e 27 40) := sa_b (sndB_if_eq dX0_isSame_24 rfl rfl) on_if
theorem s_35_27 : S35 27 (ia_al 28 0) := sa_n (snd_aload_n dX0_isSame_27 rfl rfl) on_al
theorem s_35_28 : S35 28 (ia_gfR 31 1 11) := sa_n (snd_gfR ci_1 (k := 11) (lt_c rfl) dX0_isSame_28 (Or.inl q892) (Or.inl rfl) (fun _ _ _ _ => rfl) rfl rfl) on_gfR
theorem s_35_31 : S35 31 (ia_gfR 34 4 4) := sa_n (snd_gfR ci_4 (k := 4) (lt_c rfl) dX0_isSame_31 (Or.inr ⟨_, q787⟩) (Or.inl rfl) (fun _ _ _ _ => rfl) rfl rfl) on_gfR
theorem s_35_34 : S35 34 (ia_il 36 4) := sa_n (snd_iload dX0_isSame_34 rfl) on_il
theorem s_35_36 : S35 36 (ia_ldI 37 101) := sa_n (snd_zaload dX0_isSame_36 rfl) on_ldI
theorem s_35_37 : S35 37 (ia_if k0n 40 42) := sa_b (sndB_if_ne dX0_isSame_37 rfl rfl) on_if
theorem s_35_40 : S35 40 (ia_k 41 0) := sa_n (snd_iconst dX0_isSame_40 rfl (okI_c rfl) rfl) on_k
theorem s_35_41 : S35 41 (ia_retZ) := sa_t (st_retZ dX0_isSame_41 rfl) on_retZ
theorem s_35_42 : S35 42 (ia_al 43 0) := sa_n (snd_aload_n dX0_isSame_42 rfl rfl) on_al
theorem s_35_43 : S35 43 (ia_gfR 46 1 2) := sa_n (snd_gfR ci_1 (k := 2) (lt_c rfl) dX0_isSame_43 (Or.inl q876) (Or.inl rfl) (fun _ _ _ _ => rfl) rfl rfl) on_gfR
theorem s_35_46 : S35 46 (ia_al 47 0) := sa_n (snd_aload_n dX0_isSame_46 rfl rfl) on_al
theorem s_35_47 : S35 47 (ia_gfR 50 1 11) := sa_n (snd_gfR ci_1 (k := 11) (lt_c rfl) dX0_isSame_47 (Or.inl q892) (Or.inl rfl) (fun _ _ _ _ => rfl) rfl rfl) on_gfR
theorem s_35_50 : S35 50 (ia_gfR 53 4 0) := sa_n (snd_gfR ci_4 (k := 0) (lt_c rfl) dX0_isSame_50 (Or.inr ⟨_, q781⟩) (Or.inl rfl) (fun _ _ _ _ => rfl) rfl rfl) on_gfR
theorem s_35_53 : S35 53 (ia_il 54 3) := sa_n (snd_iload_n dX0_isSame_53 rfl rfl) on_il
theorem s_35_54 : S35 54 (ia_ldR 55 106) := sa_n (snd_aaload (by decide) dX0_isSame_54 rfl) on_ldR
theorem s_35_55 : S35 55 (ia_al 56 0) := sa_n (snd_aload_n dX0_isSame_55 rfl rfl) on_al
theorem s_35_56 : S35 56 (ia_gfR 59 1 11) := sa_n (snd_gfR ci_1 (k := 11) (lt_c rfl) dX0_isSame_56 (Or.inl q892) (Or.inl rfl) (fun _ _ _ _ => rfl) rfl rfl) on_gfR
theorem s_35_59 : S35 59 (ia_gfR 62 4 0) := sa_n (snd_gfR ci_4 (k := 0) (lt_c rfl) dX0_isSame_59 (Or.inr ⟨_, q781⟩) (Or.inl rfl) (fun _ _ _ _ => rfl) rfl rfl) on_gfR
theorem s_35_62 : S35 62 (ia_il 64 4) := sa_n (snd_iload dX0_isSame_62 rfl) on_il
theorem s_35_64 : S35 64 (ia_ldR 65 106) := sa_n (snd_aaload (by decide) dX0_isSame_64 rfl) on_ldR
theorem s_35_65 : S35 65 (ia_call 68 3 2 77 7) := sk_V me_77 q1084 dX0_isSame_65 rfl
theorem s_35_68 : S35 68 (ia_al 69 0) := sa_n (snd_aload_n dX0_isSame_68 rfl rfl) on_al
theorem s_35_69 : S35 69 (ia_gfR 72 1 3) := sa_n (snd_gfR ci_1 (k := 3) (lt_c rfl) dX0_isSame_69 (Or.inl q878) (Or.inl rfl) (fun _ _ _ _ => rfl) rfl rfl) on_gfR
theorem s_35_72 : S35 72 (ia_al 73 0) := sa_n (snd_aload_n dX0_isSame_72 rfl rfl) on_al
theorem s_35_73 : S35 73 (ia_gfR 76 1 11) := sa_n (snd_gfR ci_1 (k := 11) (lt_c rfl) dX0_isSame_73 (Or.inl q892) (Or.inl rfl) (fun _ _ _ _ => rfl) rfl rfl) on_gfR
theorem s_35_76 : S35 76 (ia_gfR 79 4 1) := sa_n (snd_gfR ci_4 (k := 1) (lt_c rfl) dX0_isSame_76 (Or.inr ⟨_, q783⟩) (Or.inl rfl) (fun _ _ _ _ => rfl) rfl rfl) on_gfR
theorem s_35_79 : S35 79 (ia_il 80 3) := sa_n (snd_iload_n dX0_isSame_79 rfl rfl) on_il
theorem s_35_80 : S35 80 (ia_ldR 81 106) := sa_n (snd_aaload (by decide) dX0_isSame_80 rfl) on_ldR
theorem s_35_81 : S35 81 (ia_al 82 0) := sa_n (snd_aload_n dX0_isSame_81 rfl rfl) on_al
theorem s_35_82 : S35 82 (ia_gfR 85 1 11) := sa_n (snd_gfR ci_1 (k := 11) (lt_c rfl) dX0_isSame_82 (Or.inl q892) (Or.inl rfl) (fun _ _ _ _ => rfl) rfl rfl) on_gfR
theorem s_35_85 : S35 85 (ia_gfR 88 4 1) := sa_n (snd_gfR ci_4 (k := 1) (lt_c rfl) dX0_isSame_85 (Or.inr ⟨_, q783⟩) (Or.inl rfl) (fun _ _ _ _ => rfl) rfl rfl) on_gfR
theorem s_35_88 : S35 88 (ia_il 90 4) := sa_n (snd_iload dX0_isSame_88 rfl) on_il
theorem s_35_90 : S35 90 (ia_ldR 91 106) := sa_n (snd_aaload (by decide) dX0_isSame_90 rfl) on_ldR
theorem s_35_91 : S35 91 (ia_call 94 3 2 77 7) := sk_V me_77 q1084 dX0_isSame_91 rfl
theorem s_35_94 : S35 94 (ia_al 95 0) := sa_n (snd_aload_n dX0_isSame_94 rfl rfl) on_al
theorem s_35_95 : S35 95 (ia_gfR 98 1 2) := sa_n (snd_gfR ci_1 (k := 2) (lt_c rfl) dX0_isSame_95 (Or.inl q876) (Or.inl rfl) (fun _ _ _ _ => rfl) rfl rfl) on_gfR
theorem s_35_98 : S35 98 (ia_al 99 0) := sa_n (snd_aload_n dX0_isSame_98 rfl rfl) on_al
theorem s_35_99 : S35 99 (ia_gfR 102 1 3) := sa_n (snd_gfR ci_1 (k := 3) (lt_c rfl) dX0_isSame_99 (Or.inl q878) (Or.inl rfl) (fun _ _ _ _ => rfl) rfl rfl) on_gfR
theorem s_35_102 : S35 102 (ia_call 105 2 2 78 3) := sk_V me_78 q1061 dX0_isSame_102 rfl
theorem s_35_105 : S35 105 (ia_if k0n 108 112) := sa_b (sndB_if_ne dX0_isSame_105 rfl rfl) on_if
theorem s_35_108 : S35 108 (ia_k 109 1) := sa_n (snd_iconst dX0_isSame_108 rfl (okI_c rfl) rfl) on_k
theorem s_35_109 : S35 109 (ia_go 113) := sa_n (snd_goto dX0_isSame_109 rfl) on_go
theorem s_35_112 : S35 112 (ia_k 113 0) := sa_n (snd_iconst dX0_isSame_112 rfl (okI_c rfl) rfl) on_k
theorem s_35_113 : S35 113 (ia_retZ) := sa_t (st_retZ dX0_isSame_113 rfl) on_retZ
theorem sa_35 (pc : Nat) : S35 pc (cd_35 pc) := sa_c (sa_c (sa_c (sa_c (sa_c (sa_l s_35_0) (sa_c (sa_l s_35_2) (sa_l s_35_3))) (sa_c (sa_c (sa_l s_35_4) (sa_l s_35_5)) (sa_c (sa_l s_35_6) (sa_l s_35_7)))) (sa_c (sa_c (sa_c (sa_l s_35_9) (sa_l s_35_10)) (sa_c (sa_l s_35_11) (sa_l s_35_12))) (sa_c (sa_c (sa_l s_35_13) (sa_l s_35_15)) (sa_c (sa_l s_35_16) (sa_l s_35_19))))) (sa_c (sa_c (sa_c (sa_c (sa_l s_35_22) (sa_l s_35_23)) (sa_c (sa_l s_35_24) (sa_l s_35_27))) (sa_c (sa_c (sa_l s_35_28) (sa_l s_35_31)) (sa_c (sa_l s_35_34) (sa_l s_35_36)))) (sa_c (sa_c (sa_c (sa_l s_35_37) (sa_l s_35_40)) (sa_c (sa_l s_35_41) (sa_l s_35_42))) (sa_c (sa_c (sa_l s_35_43) (sa_l s_35_46)) (sa_c (sa_l s_35_47) (sa_l s_35_50)))))) (sa_c (sa_c (sa_c (sa_c (sa_l s_35_53) (sa_c (sa_l s_35_54) (sa_l s_35_55))) (sa_c (sa_c (sa_l s_35_56) (sa_l s_35_59)) (sa_c (sa_l s_35_62) (sa_l s_35_64)))) (sa_c (sa_c (sa_c (sa_l s_35_65) (sa_l s_35_68)) (sa_c (sa_l s_35_69) (sa_l s_35_72))) (sa_c (sa_c (sa_l s_35_73) (sa_l s_35_76)) (sa_c (sa_l s_35_79) (sa_l s_35_80))))) (sa_c (sa_c (sa_c (sa_c (sa_l s_35_81) (sa_l s_35_82)) (sa_c (sa_l s_35_85) (sa_l s_35_88))) (sa_c (sa_c (sa_l s_35_90) (sa_l s_35_91)) (sa_c (sa_l s_35_94) (sa_l s_35_95)))) (sa_c (sa_c (sa_c (sa_l s_35_98) (sa_l s_35_99)) (sa_c (sa_l s_35_102) (sa_l s_35_105))) (sa_c (sa_c (sa_l s_35_108) (sa_l s_35_109)) (sa_c (sa_l s_35_112) (sa_l s_35_113))))))
abbrev S36 (pc : Nat) (x : XI) : Prop := SA "WeekFoot" cX0_whole 1 "whole" (some .long) pc x
theorem s_36_0 : S36 0 (ia_al 1 0) := sa_n (snd_aload_n dX0_whole_0 rfl rfl) on_al
theorem s_36_1 : S36 1 (ia_gfR 4 2 0) := sa_n (snd_gfR ci_2 (k := 0) (lt_c rfl) dX0_whole_1 (Or.inr ⟨_, q766⟩) (Or.inl rfl) (fun _ _ _ _ => rfl) rfl rfl) on_gfR
theorem s_36_4 : S36 4 (ia_k 5 0) := sa_n (snd_iconst dX0_whole_4 rfl (okI_c rfl) rfl) on_k
theorem s_36_5 : S36 5 (ia_ldI 6 100) := sa_n (snd_iaload dX0_whole_5 rfl) on_ldI
theorem s_36_6 : S36 6 (ia_i2l 7) := sa_n (snd_i2l dX0_whole_6 rfl) on_i2l
theorem s_36_7 : S36 7 (ia_al 8 0) := sa_n (snd_aload_n dX0_whole_7 rfl rfl) on_al
theorem s_36_8 : S36 8 (ia_gfR 11 2 0) := sa_n (snd_gfR ci_2 (k := 0) (lt_c rfl) dX0_whole_8 (Or.inr ⟨_, q766⟩) (Or.inl rfl) (fun _ _ _ _ => rfl) rfl rfl) on_gfR
theorem s_36_11 : S36 11 (ia_k 12 1) := sa_n (snd_iconst dX0_whole_11 rfl (okI_c rfl) rfl) on_k
theorem s_36_12 : S36 12 (ia_ldI 13 100) := sa_n (snd_iaload dX0_whole_12 rfl) on_ldI
theorem s_36_13 : S36 13 (ia_i2l 14) := sa_n (snd_i2l dX0_whole_13 rfl) on_i2l
theorem s_36_14 : S36 14 (ia_kl 17 1000000000) := sa_n (snd_ldc2 dX0_whole_14 q1088 (by decide) (okL_c rfl) rfl) on_kl
theorem s_36_17 : S36 17 (ia_lmul 18) := sa_n (snd_lmul dX0_whole_17 rfl) on_lmul
theorem s_36_18 : S36 18 (ia_ladd 19) := sa_n (snd_ladd dX0_whole_18 rfl) on_ladd
theorem s_36_19 : S36 19 (ia_al 20 0) := sa_n (snd_aload_n dX0_whole_19 rfl rfl) on_al
theorem s_36_20 : S36 20 (ia_gfR 23 2 0) := sa_n (snd_gfR ci_2 (k := 0) (lt_c rfl) dX0_whole_20 (Or.inr ⟨_, q766⟩) (Or.inl rfl) (fun _ _ _ _ => rfl) rfl rfl) on_gfR
theorem s_36_23 : S36 23 (ia_k 24 2) := sa_n (snd_iconst dX0_whole_23 rfl (okI_c rfl) rfl) on_k
theorem s_36_24 : S36 24 (ia_ldI 25 100) := sa_n (snd_iaload dX0_whole_24 rfl) on_ldI
theorem s_36_25 : S36 25 (ia_i2l 26) := sa_n (snd_i2l dX0_whole_25 rfl) on_i2l
theorem s_36_26 : S36 26 (ia_kl 29 1000000000) := sa_n (snd_ldc2 dX0_whole_26 q1088 (by decide) (okL_c rfl) rfl) on_kl
theorem s_36_29 : S36 29 (ia_lmul 30) := sa_n (snd_lmul dX0_whole_29 rfl) on_lmul
theorem s_36_30 : S36 30 (ia_kl 33 1000000000) := sa_n (snd_ldc2 dX0_whole_30 q1088 (by decide) (okL_c rfl) rfl) on_kl
theorem s_36_33 : S36 33 (ia_lmul 34) := sa_n (snd_lmul dX0_whole_33 rfl) on_lmul
theorem s_36_34 : S36 34 (ia_ladd 35) := sa_n (snd_ladd dX0_whole_34 rfl) on_ladd
theorem s_36_35 : S36 35 (ia_retL) := sa_t (st_retL dX0_whole_35 rfl) on_retL
theorem sa_36 (pc : Nat) : S36 pc (cd_36 pc) := sa_c (sa_c (sa_c (sa_c (sa_l s_36_0) (sa_c (sa_l s_36_1) (sa_l s_36_4))) (sa_c (sa_l s_36_5) (sa_c (sa_l s_36_6) (sa_l s_36_7)))) (sa_c (sa_c (sa_l s_36_8) (sa_c (sa_l s_36_11) (sa_l s_36_12))) (sa_c (sa_l s_36_13) (sa_c (sa_l s_36_14) (sa_l s_36_17))))) (sa_c (sa_c (sa_c (sa_l s_36_18) (sa_c (sa_l s_36_19) (sa_l s_36_20))) (sa_c (sa_l s_36_23) (sa_c (sa_l s_36_24) (sa_l s_36_25)))) (sa_c (sa_c (sa_l s_36_26) (sa_c (sa_l s_36_29) (sa_l s_36_30))) (sa_c (sa_l s_36_33) (sa_c (sa_l s_36_34) (sa_l s_36_35)))))
abbrev S37 (pc : Nat) (x : XI) : Prop := SA "WeekFoot" cX0_common 4 "common" (some .long) pc x
theorem s_37_0 : S37 0 (ia_ll 1 2) := sa_n (snd_lload_n dX0_common_0 rfl rfl) on_ll
theorem s_37_1 : S37 1 (ia_kl 2 0) := sa_n (snd_lconst dX0_common_1 rfl (okL_c rfl) rfl) on_kl
theorem s_37_2 : S37 2 (ia_lcmp 3) := sa_n (snd_lcmp dX0_common_2 rfl) on_lcmp
theorem s_37_3 : S37 3 (ia_if k0n 6 10) := sa_b (sndB_if_ne dX0_common_3 rfl rfl) on_if
theorem s_37_6 : S37 6 (ia_ll 7 0) := sa_n (snd_lload_n dX0_common_6 rfl rfl) on_ll
theorem s_37_7 : S37 7 (ia_go 17) := sa_n (snd_goto dX0_common_7 rfl) on_go
theorem s_37_10 : S37 10 (ia_ll 11 2) := sa_n (snd_lload_n dX0_common_10 rfl rfl) on_ll
theorem s_37_11 : S37 11 (ia_ll 12 0) := sa_n (snd_lload_n dX0_common_11 rfl rfl) on_ll
theorem s_37_12 : S37 12 (ia_ll 13 2) := sa_n (snd_lload_n dX0_common_12 rfl rfl) on_ll
theorem s_37_13 : S37 13 (ia_lrem 14) := sa_n (snd_lrem dX0_common_13 rfl) on_lrem
theorem s_37_14 : S37 14 (ia_stat 17 2 37 4) := sk_S me_37 q1089 dX0_common_14 rfl
theorem s_37_17 : S37 17 (ia_retL) := sa_t (st_retL dX0_common_17 rfl) on_retL
theorem sa_37 (pc : Nat) : S37 pc (cd_37 pc) := sa_c (sa_c (sa_c (sa_l s_37_0) (sa_c (sa_l s_37_1) (sa_l s_37_2))) (sa_c (sa_l s_37_3) (sa_c (sa_l s_37_6) (sa_l s_37_7)))) (sa_c (sa_c (sa_l s_37_10) (sa_c (sa_l s_37_11) (sa_l s_37_12))) (sa_c (sa_l s_37_13) (sa_c (sa_l s_37_14) (sa_l s_37_17))))
abbrev S38 (pc : Nat) (x : XI) : Prop := SA "WeekFoot" cX0_lay 8 "lay" (some .int) pc x
theorem s_38_0 : S38 0 (ia_al 1 0) := sa_n (snd_aload_n dX0_lay_0 rfl rfl) on_al
theorem s_38_1 : S38 1 (ia_il 2 1) := sa_n (snd_iload_n dX0_lay_1 rfl rfl) on_il
theorem s_38_2 : S38 2 (ia_il 4 4) := sa_n (snd_iload dX0_lay_2 rfl) on_il
theorem s_38_4 : S38 4 (ia_call 7 3 1 39 3) := sk_V me_39 q1096 dX0_lay_4 rfl
theorem s_38_7 : S38 7 (ia_if k0e 10 55) := sa_b (sndB_if_eq dX0_lay_7 rfl rfl) on_if
theorem s_38_10 : S38 10 (ia_al 11 0) := sa_n (snd_aload_n dX0_lay_10 rfl rfl) on_al
theorem s_38_11 : S38 11 (ia_il 12 2) := sa_n (snd_iload_n dX0_lay_11 rfl rfl) on_il
theorem s_38_12 : S38 12 (ia_il 14 4) := sa_n (snd_iload dX0_lay_12 rfl) on_il
theorem s_38_14 : S38 14 (ia_call 17 3 1 39 3) := sk_V me_39 q1096 dX0_lay_14 rfl
theorem s_38_17 : S38 17 (ia_if k0e 20 55) := sa_b (sndB_if_eq dX0_lay_17 rfl rfl) on_if
theorem s_38_20 : S38 20 (ia_il 21 3) := sa_n (snd_iload_n dX0_lay_20 rfl rfl) on_il
theorem s_38_21 : S38 21 (ia_k 22 (-1)) := sa_n (snd_iconst dX0_lay_21 rfl (okI_c rfl) rfl) on_k
theorem s_38_22 : S38 22 (ia_ic k2e 25 35) := sa_b (sndB_ic_eq dX0_lay_22 rfl rfl) on_ic
theorem s_38_25 : S38 25 (ia_al 26 0) := sa_n (snd_aload_n dX0_lay_25 rfl rfl) on_al
theorem s_38_26 : S38 26 (ia_il 27 3) := sa_n (snd_iload_n dX0_lay_26 rfl rfl) on_il
theorem s_38_27 : S38 27 (ia_il 29 4) := sa_n (snd_iload dX0_lay_27 rfl) on_il
theorem s_38_29 : S38 29 (ia_call 32 3 1 39 3) := sk_V me_39 q1096 dX0_lay_29 rfl
theorem s_38_32 : S38 32 (ia_if k0e 35 55) := sa_b (sndB_if_eq dX0_lay_32 rfl rfl) on_if
theorem s_38_35 : S38 35 (ia_il 37 5) := sa_n (snd_iload dX0_lay_35 rfl) on_il
theorem s_38_37 : S38 37 (ia_k 38 0) := sa_n (snd_iconst dX0_lay_37 rfl (okI_c rfl) rfl) on_k
theorem s_38_38 : S38 38 (ia_k 39 1) := sa_n (snd_iconst dX0_lay_38 rfl (okI_c rfl) rfl) on_k
theorem s_38_39 : S38 39 (ia_stat 42 3 2 3) := sk_S me_2 q138 dX0_lay_39 rfl
theorem s_38_42 : S38 42 (ia_if k0e 45 55) := sa_b (sndB_if_eq dX0_lay_42 rfl rfl) on_if
theorem s_38_45 : S38 45 (ia_al 46 0) := sa_n (snd_aload_n dX0_lay_45 rfl rfl) on_al
theorem s_38_46 : S38 46 (ia_gfR 49 1 11) := sa_n (snd_gfR ci_1 (k := 11) (lt_c rfl) dX0_lay_46 (Or.inl q892) (Or.inl rfl) (fun _ _ _ _ => rfl) rfl rfl) on_gfR
theorem s_38_49 : S38 49 (ia_call 52 1 4 88 1) := sk_V me_88 q971 dX0_lay_49 rfl
theorem s_38_52 : S38 52 (ia_if k0n 55 58) := sa_b (sndB_if_ne dX0_lay_52 rfl rfl) on_if
theorem s_38_55 : S38 55 (ia_k 57 (-2)) := sa_n (snd_bipush dX0_lay_55 (by decide) (okI_c rfl) rfl) on_k
theorem s_38_57 : S38 57 (ia_retI) := sa_t (st_retI dX0_lay_57 rfl) on_retI
theorem s_38_58 : S38 58 (ia_k 59 3) := sa_n (snd_iconst dX0_lay_58 rfl (okI_c rfl) rfl) on_k
theorem s_38_59 : S38 59 (ia_newa 61 100) := sa_n (snd_newI q182 dX0_lay_59 rfl) on_newa
theorem s_38_61 : S38 61 (ia_dup 62) := sa_n (snd_dup dX0_lay_61 rfl) on_dup
theorem s_38_62 : S38 62 (ia_k 63 0) := sa_n (snd_iconst dX0_lay_62 rfl (okI_c rfl) rfl) on_k
theorem s_38_63 : S38 63 (ia_il 64 1) := sa_n (snd_iload_n dX0_lay_63 rfl rfl) on_il
theorem s_38_64 : S38 64 (ia_stI 65) := sa_n (snd_iastore dX0_lay_64 rfl) on_stI
theorem s_38_65 : S38 65 (ia_dup 66) := sa_n (snd_dup dX0_lay_65 rfl) on_dup
theorem s_38_66 : S38 66 (ia_k 67 1) := sa_n (snd_iconst dX0_lay_66 rfl (okI_c rfl) rfl) on_k
theorem s_38_67 : S38 67 (ia_il 68 2) := sa_n (snd_iload_n dX0_lay_67 rfl rfl) on_il
theorem s_38_68 : S38 68 (ia_stI 69) := sa_n (snd_iastore dX0_lay_68 rfl) on_stI
theorem s_38_69 : S38 69 (ia_dup 70) := sa_n (snd_dup dX0_lay_69 rfl) on_dup
theorem s_38_70 : S38 70 (ia_k 71 2) := sa_n (snd_iconst dX0_lay_70 rfl (okI_c rfl) rfl) on_k
theorem s_38_71 : S38 71 (ia_il 72 3) := sa_n (snd_iload_n dX0_lay_71 rfl rfl) on_il
theorem s_38_72 : S38 72 (ia_stI 73) := sa_n (snd_iastore dX0_lay_72 rfl) on_stI
theorem s_38_73 : S38 73 (ia_as 75 6) := sa_n (snd_astore dX0_lay_73 (lt_c rfl) rfl) on_as
theorem s_38_75 : S38 75 (ia_al 76 0) := sa_n (snd_aload_n dX0_lay_75 rfl rfl) on_al
theorem s_38_76 : S38 76 (ia_gfR 79 1 14) := sa_n (snd_gfR ci_1 (k := 14) (lt_c rfl) dX0_lay_76 (Or.inl q896) (Or.inl rfl) (fun _ _ _ _ => rfl) rfl rfl) on_gfR
theorem s_38_79 : S38 79 (ia_k 80 0) := sa_n (snd_iconst dX0_lay_79 rfl (okI_c rfl) rfl) on_k
theorem s_38_80 : S38 80 (ia_call 83 2 2 76 3) := sk_V me_76 q1100 dX0_lay_80 rfl
theorem s_38_83 : S38 83 (ia_al 84 0) := sa_n (snd_aload_n dX0_lay_83 rfl rfl) on_al
theorem s_38_84 : S38 84 (ia_gfR 87 1 15) := sa_n (snd_gfR ci_1 (k := 15) (lt_c rfl) dX0_lay_84 (Or.inl q897) (Or.inl rfl) (fun _ _ _ _ => rfl) rfl rfl) on_gfR
theorem s_38_87 : S38 87 (ia_k 88 1) := sa_n (snd_iconst dX0_lay_87 rfl (okI_c rfl) rfl) on_k
theorem s_38_88 : S38 88 (ia_call 91 2 2 76 3) := sk_V me_76 q1100 dX0_lay_88 rfl
theorem s_38_91 : S38 91 (ia_al 92 0) := sa_n (snd_aload_n dX0_lay_91 rfl rfl) on_al
theorem s_38_92 : S38 92 (ia_k 93 0) := sa_n (snd_iconst dX0_lay_92 rfl (okI_c rfl) rfl) on_k
theorem s_38_93 : S38 93 (ia_pfZ 96 1 18) := sa_n (snd_pfZ ci_1 (k := 18) (lt_c rfl) dX0_lay_93 q900 (Or.inl rfl) (Or.inl rfl) (rfl) rfl rfl) on_pfZ
theorem s_38_96 : S38 96 (ia_k 97 0) := sa_n (snd_iconst dX0_lay_96 rfl (okI_c rfl) rfl) on_k
theorem s_38_97 : S38 97 (ia_is 99 7) := sa_n (snd_istore dX0_lay_97 (lt_c rfl) rfl) on_is
theorem s_38_99 : S38 99 (ia_keep [0, 4, 5, 6, 7] (ia_il 101 7)) := sa_nk (snd_iload dX0_lay_99 rfl) on_il
theorem s_38_101 : S38 101 (ia_k 102 3) := sa_n (snd_iconst dX0_lay_101 rfl (okI_c rfl) rfl) on_k
theorem s_38_102 : S38 102 (ia_ic k2g 105 225) := sa_b (sndB_ic_ge dX0_lay_102 rfl rfl) on_ic
theorem s_38_105 : S38 105 (ia_al 107 6) := sa_n (snd_aload dX0_lay_105 rfl) on_al
theorem s_38_107 : S38 107 (ia_il 109 7) := sa_n (snd_iload dX0_lay_107 rfl) on_il
theorem s_38_109 : S38 109 (ia_ldI 110 100) := sa_n (snd_iaload dX0_lay_109 rfl) on_ldI
theorem s_38_110 : S38 110 (ia_k 111 (-1)) := sa_n (snd_iconst dX0_lay_110 rfl (okI_c rfl) rfl) on_k
theorem s_38_111 : S38 111 (ia_ic k2n 114 117) := sa_b (sndB_ic_ne dX0_lay_111 rfl rfl) on_ic
theorem s_38_114 : S38 114 (ia_go 219) := sa_n (snd_goto dX0_lay_114 rfl) on_go
theorem s_38_117 : S38 117 (ia_al 118 0) := sa_n (snd_aload_n dX0_lay_117 rfl rfl) on_al
theorem s_38_118 : S38 118 (ia_al 120 6) := sa_n (snd_aload dX0_lay_118 rfl) on_al
theorem s_38_120 : S38 120 (ia_il 122 7) := sa_n (snd_iload dX0_lay_120 rfl) on_il
theorem s_38_122 : S38 122 (ia_ldI 123 100) := sa_n (snd_iaload dX0_lay_122 rfl) on_ldI
theorem s_38_123 : S38 123 (ia_il 125 4) := sa_n (snd_iload dX0_lay_123 rfl) on_il
theorem s_38_125 : S38 125 (ia_il 127 5) := sa_n (snd_iload dX0_lay_125 rfl) on_il
theorem s_38_127 : S38 127 (ia_call 130 4 1 40 6) := sk_V me_40 q1101 dX0_lay_127 rfl
theorem s_38_130 : S38 130 (ia_if k0n 133 141) := sa_b (sndB_if_ne dX0_lay_130 rfl rfl) on_if
theorem s_38_133 : S38 133 (ia_il 135 5) := sa_n (snd_iload dX0_lay_133 rfl) on_il
theorem s_38_135 : S38 135 (ia_k 136 1) := sa_n (snd_iconst dX0_lay_135 rfl (okI_c rfl) rfl) on_k
theorem s_38_136 : S38 136 (ia_ic k2n 139 219) := sa_b (sndB_ic_ne dX0_lay_136 rfl rfl) on_ic
theorem s_38_139 : S38 139 (ia_k 140 (-1)) := sa_n (snd_iconst dX0_lay_139 rfl (okI_c rfl) rfl) on_k
theorem s_38_140 : S38 140 (ia_retI) := sa_t (st_retI dX0_lay_140 rfl) on_retI
theorem s_38_141 : S38 141 (ia_al 142 0) := sa_n (snd_aload_n dX0_lay_141 rfl rfl) on_al
theorem s_38_142 : S38 142 (ia_gfR 145 1 2) := sa_n (snd_gfR ci_1 (k := 2) (lt_c rfl) dX0_lay_142 (Or.inl q876) (Or.inl rfl) (fun _ _ _ _ => rfl) rfl rfl) on_gfR
theorem s_38_145 : S38 145 (ia_al 146 0) := sa_n (snd_aload_n dX0_lay_145 rfl rfl) on_al
theorem s_38_146 : S38 146 (ia_gfR 149 1 14) := sa_n (snd_gfR ci_1 (k := 14) (lt_c rfl) dX0_lay_146 (Or.inl q896) (Or.inl rfl) (fun _ _ _ _ => rfl) rfl rfl) on_gfR
theorem s_38_149 : S38 149 (ia_al 150 0) := sa_n (snd_aload_n dX0_lay_149 rfl rfl) on_al
theorem s_38_150 : S38 150 (ia_gfR 153 1 17) := sa_n (snd_gfR ci_1 (k := 17) (lt_c rfl) dX0_lay_150 (Or.inl q899) (Or.inl rfl) (fun _ _ _ _ => rfl) rfl rfl) on_gfR
theorem s_38_153 : S38 153 (ia_call 156 3 2 77 7) := sk_V me_77 q1084 dX0_lay_153 rfl
theorem s_38_156 : S38 156 (ia_al 157 0) := sa_n (snd_aload_n dX0_lay_156 rfl rfl) on_al
theorem s_38_157 : S38 157 (ia_gfR 160 1 3) := sa_n (snd_gfR ci_1 (k := 3) (lt_c rfl) dX0_lay_157 (Or.inl q878) (Or.inl rfl) (fun _ _ _ _ => rfl) rfl rfl) on_gfR
theorem s_38_160 : S38 160 (ia_al 161 0) := sa_n (snd_aload_n dX0_lay_160 rfl rfl) on_al
theorem s_38_161 : S38 161 (ia_gfR 164 1 16) := sa_n (snd_gfR ci_1 (k := 16) (lt_c rfl) dX0_lay_161 (Or.inl q898) (Or.inl rfl) (fun _ _ _ _ => rfl) rfl rfl) on_gfR
theorem s_38_164 : S38 164 (ia_al 165 0) := sa_n (snd_aload_n dX0_lay_164 rfl rfl) on_al
theorem s_38_165 : S38 165 (ia_gfR 168 1 15) := sa_n (snd_gfR ci_1 (k := 15) (lt_c rfl) dX0_lay_165 (Or.inl q897) (Or.inl rfl) (fun _ _ _ _ => rfl) rfl rfl) on_gfR
theorem s_38_168 : S38 168 (ia_call 171 3 2 77 7) := sk_V me_77 q1084 dX0_lay_168 rfl
theorem s_38_171 : S38 171 (ia_al 172 0) := sa_n (snd_aload_n dX0_lay_171 rfl rfl) on_al
theorem s_38_172 : S38 172 (ia_gfR 175 1 2) := sa_n (snd_gfR ci_1 (k := 2) (lt_c rfl) dX0_lay_172 (Or.inl q876) (Or.inl rfl) (fun _ _ _ _ => rfl) rfl rfl) on_gfR
theorem s_38_175 : S38 175 (ia_al 176 0) := sa_n (snd_aload_n dX0_lay_175 rfl rfl) on_al
theorem s_38_176 : S38 176 (ia_gfR 179 1 3) := sa_n (snd_gfR ci_1 (k := 3) (lt_c rfl) dX0_lay_176 (Or.inl q878) (Or.inl rfl) (fun _ _ _ _ => rfl) rfl rfl) on_gfR
theorem s_38_179 : S38 179 (ia_stat 182 2 41 5) := sk_S me_41 q1105 dX0_lay_179 rfl
theorem s_38_182 : S38 182 (ia_al 183 0) := sa_n (snd_aload_n dX0_lay_182 rfl rfl) on_al
theorem s_38_183 : S38 183 (ia_gfR 186 1 14) := sa_n (snd_gfR ci_1 (k := 14) (lt_c rfl) dX0_lay_183 (Or.inl q896) (Or.inl rfl) (fun _ _ _ _ => rfl) rfl rfl) on_gfR
theorem s_38_186 : S38 186 (ia_al 187 0) := sa_n (snd_aload_n dX0_lay_186 rfl rfl) on_al
theorem s_38_187 : S38 187 (ia_gfR 190 1 2) := sa_n (snd_gfR ci_1 (k := 2) (lt_c rfl) dX0_lay_187 (Or.inl q876) (Or.inl rfl) (fun _ _ _ _ => rfl) rfl rfl) on_gfR
theorem s_38_190 : S38 190 (ia_call 193 2 2 79 2) := sk_V me_79 q1055 dX0_lay_190 rfl
theorem s_38_193 : S38 193 (ia_al 194 0) := sa_n (snd_aload_n dX0_lay_193 rfl rfl) on_al
theorem s_38_194 : S38 194 (ia_gfR 197 1 2) := sa_n (snd_gfR ci_1 (k := 2) (lt_c rfl) dX0_lay_194 (Or.inl q876) (Or.inl rfl) (fun _ _ _ _ => rfl) rfl rfl) on_gfR
theorem s_38_197 : S38 197 (ia_al 198 0) := sa_n (snd_aload_n dX0_lay_197 rfl rfl) on_al
theorem s_38_198 : S38 198 (ia_gfR 201 1 15) := sa_n (snd_gfR ci_1 (k := 15) (lt_c rfl) dX0_lay_198 (Or.inl q897) (Or.inl rfl) (fun _ _ _ _ => rfl) rfl rfl) on_gfR
theorem s_38_201 : S38 201 (ia_al 202 0) := sa_n (snd_aload_n dX0_lay_201 rfl rfl) on_al
theorem s_38_202 : S38 202 (ia_gfR 205 1 17) := sa_n (snd_gfR ci_1 (k := 17) (lt_c rfl) dX0_lay_202 (Or.inl q899) (Or.inl rfl) (fun _ _ _ _ => rfl) rfl rfl) on_gfR
theorem s_38_205 : S38 205 (ia_call 208 3 2 77 7) := sk_V me_77 q1084 dX0_lay_205 rfl
theorem s_38_208 : S38 208 (ia_al 209 0) := sa_n (snd_aload_n dX0_lay_208 rfl rfl) on_al
theorem s_38_209 : S38 209 (ia_gfR 212 1 15) := sa_n (snd_gfR ci_1 (k := 15) (lt_c rfl) dX0_lay_209 (Or.inl q897) (Or.inl rfl) (fun _ _ _ _ => rfl) rfl rfl) on_gfR
theorem s_38_212 : S38 212 (ia_al 213 0) := sa_n (snd_aload_n dX0_lay_212 rfl rfl) on_al
theorem s_38_213 : S38 213 (ia_gfR 216 1 2) := sa_n (snd_gfR ci_1 (k := 2) (lt_c rfl) dX0_lay_213 (Or.inl q876) (Or.inl rfl) (fun _ _ _ _ => rfl) rfl rfl) on_gfR
theorem s_38_216 : S38 216 (ia_call 219 2 2 79 2) := sk_V me_79 q1055 dX0_lay_216 rfl
theorem s_38_219 : S38 219 (ia_inc 222 7 1) := sa_n (snd_iinc dX0_lay_219 rfl (lt_c rfl) rfl) on_inc
theorem s_38_222 : S38 222 (ia_go 99) := sa_n (snd_goto dX0_lay_222 rfl) on_go
theorem s_38_225 : S38 225 (ia_al 226 0) := sa_n (snd_aload_n dX0_lay_225 rfl rfl) on_al
theorem s_38_226 : S38 226 (ia_il 228 5) := sa_n (snd_iload dX0_lay_226 rfl) on_il
theorem s_38_228 : S38 228 (ia_k 231 6000) := sa_n (snd_sipush dX0_lay_228 (by decide) (okI_c rfl) rfl) on_k
theorem s_38_231 : S38 231 (ia_call 234 3 1 42 4) := sk_V me_42 q1109 dX0_lay_231 rfl
theorem s_38_234 : S38 234 (ia_retI) := sa_t (st_retI dX0_lay_234 rfl) on_retI
theorem sa_38_0 (pc : Nat) : S38 pc (cd_38_0 pc) := sa_c (sa_c (sa_c (sa_c (sa_c (sa_l s_38_0) (sa_c (sa_l s_38_1) (sa_l s_38_2))) (sa_c (sa_c (sa_l s_38_4) (sa_l s_38_7)) (sa_c (sa_l s_38_10) (sa_l s_38_11)))) (sa_c (sa_c (sa_c (sa_l s_38_12) (sa_l s_38_14)) (sa_c (sa_l s_38_17) (sa_l s_38_20))) (sa_c (sa_c (sa_l s_38_21) (sa_l s_38_22)) (sa_c (sa_l s_38_25) (sa_l s_38_26))))) (sa_c (sa_c (sa_c (sa_l s_38_27) (sa_c (sa_l s_38_29) (sa_l s_38_32))) (sa_c (sa_c (sa_l s_38_35) (sa_l s_38_37)) (sa_c (sa_l s_38_38) (sa_l s_38_39)))) (sa_c (sa_c (sa_c (sa_l s_38_42) (sa_l s_38_45)) (sa_c (sa_l s_38_46) (sa_l s_38_49))) (sa_c (sa_c (sa_l s_38_52) (sa_l s_38_55)) (sa_c (sa_l s_38_57) (sa_l s_38_58)))))) (sa_c (sa_c (sa_c (sa_c (sa_l s_38_59) (sa_c (sa_l s_38_61) (sa_l s_38_62))) (sa_c (sa_c (sa_l s_38_63) (sa_l s_38_64)) (sa_c (sa_l s_38_65) (sa_l s_38_66)))) (sa_c (sa_c (sa_c (sa_l s_38_67) (sa_l s_38_68)) (sa_c (sa_l s_38_69) (sa_l s_38_70))) (sa_c (sa_c (sa_l s_38_71) (sa_l s_38_72)) (sa_c (sa_l s_38_73) (sa_l s_38_75))))) (sa_c (sa_c (sa_c (sa_c (sa_l s_38_76) (sa_l s_38_79)) (sa_c (sa_l s_38_80) (sa_l s_38_83))) (sa_c (sa_c (sa_l s_38_84) (sa_l s_38_87)) (sa_c (sa_l s_38_88) (sa_l s_38_91)))) (sa_c (sa_c (sa_c (sa_l s_38_92) (sa_l s_38_93)) (sa_c (sa_l s_38_96) (sa_l s_38_97))) (sa_c (sa_c (sa_l s_38_99) (sa_l s_38_101)) (sa_c (sa_l s_38_102) (sa_l s_38_105))))))
theorem sa_38_1 (pc : Nat) : S38 pc (cd_38_1 pc) := sa_c (sa_c (sa_c (sa_c (sa_c (sa_l s_38_107) (sa_c (sa_l s_38_109) (sa_l s_38_110))) (sa_c (sa_c (sa_l s_38_111) (sa_l s_38_114)) (sa_c (sa_l s_38_117) (sa_l s_38_118)))) (sa_c (sa_c (sa_c (sa_l s_38_120) (sa_l s_38_122)) (sa_c (sa_l s_38_123) (sa_l s_38_125))) (sa_c (sa_c (sa_l s_38_127) (sa_l s_38_130)) (sa_c (sa_l s_38_133) (sa_l s_38_135))))) (sa_c (sa_c (sa_c (sa_l s_38_136) (sa_c (sa_l s_38_139) (sa_l s_38_140))) (sa_c (sa_c (sa_l s_38_141) (sa_l s_38_142)) (sa_c (sa_l s_38_145) (sa_l s_38_146)))) (sa_c (sa_c (sa_c (sa_l s_38_149) (sa_l s_38_150)) (sa_c (sa_l s_38_153) (sa_l s_38_156))) (sa_c (sa_c (sa_l s_38_157) (sa_l s_38_160)) (sa_c (sa_l s_38_161) (sa_l s_38_164)))))) (sa_c (sa_c (sa_c (sa_c (sa_l s_38_165) (sa_c (sa_l s_38_168) (sa_l s_38_171))) (sa_c (sa_c (sa_l s_38_172) (sa_l s_38_175)) (sa_c (sa_l s_38_176) (sa_l s_38_179)))) (sa_c (sa_c (sa_c (sa_l s_38_182) (sa_l s_38_183)) (sa_c (sa_l s_38_186) (sa_l s_38_187))) (sa_c (sa_c (sa_l s_38_190) (sa_l s_38_193)) (sa_c (sa_l s_38_194) (sa_l s_38_197))))) (sa_c (sa_c (sa_c (sa_c (sa_l s_38_198) (sa_l s_38_201)) (sa_c (sa_l s_38_202) (sa_l s_38_205))) (sa_c (sa_c (sa_l s_38_208) (sa_l s_38_209)) (sa_c (sa_l s_38_212) (sa_l s_38_213)))) (sa_c (sa_c (sa_c (sa_l s_38_216) (sa_l s_38_219)) (sa_c (sa_l s_38_222) (sa_l s_38_225))) (sa_c (sa_c (sa_l s_38_226) (sa_l s_38_228)) (sa_c (sa_l s_38_231) (sa_l s_38_234))))))
theorem sa_38 (pc : Nat) : S38 pc (cd_38 pc) := sa_c (sa_38_0 pc) (sa_38_1 pc)
abbrev S39 (pc : Nat) (x : XI) : Prop := SA "WeekFoot" cX0_isFoot 3 "isFoot" (some .boolean) pc x
theorem s_39_0 : S39 0 (ia_il 1 1) := sa_n (snd_iload_n dX0_isFoot_0 rfl rfl) on_il
theorem s_39_1 : S39 1 (ia_k 2 0) := sa_n (snd_iconst dX0_isFoot_1 rfl (okI_c rfl) rfl) on_k
theorem s_39_2 : S39 2 (ia_k 4 11) := sa_n (snd_bipush dX0_isFoot_2 (by decide) (okI_c rfl) rfl) on_k
theorem s_39_4 : S39 4 (ia_stat 7 3 2 3) := sk_S me_2 q138 dX0_isFoot_4 rfl
theorem s_39_7 : S39 7 (ia_if k0e 10 29) := sa_b (sndB_if_eq dX0_isFoot_7 rfl rfl) on_if
theorem s_39_10 : S39 10 (ia_al 11 0) := sa_n (snd_aload_n dX0_isFoot_10 rfl rfl) on_al
theorem s_39_11 : S39 11 (ia_il 12 1) := sa_n (snd_iload_n dX0_isFoot_11 rfl rfl) on_il
theorem s_39_12 : S39 12 (ia_call 15 2 1 30 2) := sk_V me_30 q1045 dX0_isFoot_12 rfl
theorem s_39_15 : S39 15 (ia_if k0e 18 29) := sa_b (sndB_if_eq dX0_isFoot_15 rfl rfl) on_if
theorem s_39_18 : S39 18 (ia_il 19 2) := sa_n (snd_iload_n dX0_isFoot_18 rfl rfl) on_il
theorem s_39_19 : S39 19 (ia_stat 22 1 9 1) := sk_S me_9 q320 dX0_isFoot_19 rfl
theorem s_39_22 : S39 22 (ia_if k0e 25 29) := sa_b (sndB_if_eq dX0_isFoot_22 rfl rfl) on_if
theorem s_39_25 : S39 25 (ia_k 26 1) := sa_n (snd_iconst dX0_isFoot_25 rfl (okI_c rfl) rfl) on_k
theorem s_39_26 : S39 26 (ia_go 30) := sa_n (snd_goto dX0_isFoot_26 rfl) on_go
theorem s_39_29 : S39 29 (ia_k 30 0) := sa_n (snd_iconst dX0_isFoot_29 rfl (okI_c rfl) rfl) on_k
theorem s_39_30 : S39 30 (ia_retZ) := sa_t (st_retZ dX0_isFoot_30 rfl) on_retZ
theorem sa_39 (pc : Nat) : S39 pc (cd_39 pc) := sa_c (sa_c (sa_c (sa_c (sa_l s_39_0) (sa_l s_39_1)) (sa_c (sa_l s_39_2) (sa_l s_39_4))) (sa_c (sa_c (sa_l s_39_7) (sa_l s_39_10)) (sa_c (sa_l s_39_11) (sa_l s_39_12)))) (sa_c (sa_c (sa_c (sa_l s_39_15) (sa_l s_39_18)) (sa_c (sa_l s_39_19) (sa_l s_39_22))) (sa_c (sa_c (sa_l s_39_25) (sa_l s_39_26)) (sa_c (sa_l s_39_29) (sa_l s_39_30))))
abbrev S40 (pc : Nat) (x : XI) : Prop := SA "WeekFoot" cX0_end_2 6 "end" (some .boolean) pc x
theorem s_40_0 : S40 0 (ia_k 2 12) := sa_n (snd_bipush dX0_end_2_0 (by decide) (okI_c rfl) rfl) on_k
theorem s_40_2 : S40 2 (ia_il 3 2) := sa_n (snd_iload_n dX0_end_2_2 rfl rfl) on_il
theorem s_40_3 : S40 3 (ia_add 4) := sa_n (snd_iadd dX0_end_2_3 rfl) on_add
theorem s_40_4 : S40 4 (ia_is 6 4) := sa_n (snd_istore dX0_end_2_4 (lt_c rfl) rfl) on_is
theorem s_40_6 : S40 6 (ia_il 7 3) := sa_n (snd_iload_n dX0_end_2_6 rfl rfl) on_il
theorem s_40_7 : S40 7 (ia_if k0n 10 20) := sa_b (sndB_if_ne dX0_end_2_7 rfl rfl) on_if
theorem s_40_10 : S40 10 (ia_k 12 16) := sa_n (snd_bipush dX0_end_2_10 (by decide) (okI_c rfl) rfl) on_k
theorem s_40_12 : S40 12 (ia_il 13 1) := sa_n (snd_iload_n dX0_end_2_12 rfl rfl) on_il
theorem s_40_13 : S40 13 (ia_mul 14) := sa_n (snd_imul dX0_end_2_13 rfl) on_mul
theorem s_40_14 : S40 14 (ia_il 16 4) := sa_n (snd_iload dX0_end_2_14 rfl) on_il
theorem s_40_16 : S40 16 (ia_add 17) := sa_n (snd_iadd dX0_end_2_16 rfl) on_add
theorem s_40_17 : S40 17 (ia_go 27) := sa_n (snd_goto dX0_end_2_17 rfl) on_go
theorem s_40_20 : S40 20 (ia_k 22 16) := sa_n (snd_bipush dX0_end_2_20 (by decide) (okI_c rfl) rfl) on_k
theorem s_40_22 : S40 22 (ia_il 24 4) := sa_n (snd_iload dX0_end_2_22 rfl) on_il
theorem s_40_24 : S40 24 (ia_mul 25) := sa_n (snd_imul dX0_end_2_24 rfl) on_mul
theorem s_40_25 : S40 25 (ia_il 26 1) := sa_n (snd_iload_n dX0_end_2_25 rfl rfl) on_il
theorem s_40_26 : S40 26 (ia_add 27) := sa_n (snd_iadd dX0_end_2_26 rfl) on_add
theorem s_40_27 : S40 27 (ia_is 29 5) := sa_n (snd_istore dX0_end_2_27 (lt_c rfl) rfl) on_is
theorem s_40_29 : S40 29 (ia_al 30 0) := sa_n (snd_aload_n dX0_end_2_29 rfl rfl) on_al
theorem s_40_30 : S40 30 (ia_gfR 33 1 11) := sa_n (snd_gfR ci_1 (k := 11) (lt_c rfl) dX0_end_2_30 (Or.inl q892) (Or.inl rfl) (fun _ _ _ _ => rfl) rfl rfl) on_gfR
theorem s_40_33 : S40 33 (ia_gfR 36 4 4) := sa_n (snd_gfR ci_4 (k := 4) (lt_c rfl) dX0_end_2_33 (Or.inr ⟨_, q787⟩) (Or.inl rfl) (fun _ _ _ _ => rfl) rfl rfl) on_gfR
theorem s_40_36 : S40 36 (ia_il 38 5) := sa_n (snd_iload dX0_end_2_36 rfl) on_il
theorem s_40_38 : S40 38 (ia_ldI 39 101) := sa_n (snd_zaload dX0_end_2_38 rfl) on_ldI
theorem s_40_39 : S40 39 (ia_if k0n 42 44) := sa_b (sndB_if_ne dX0_end_2_39 rfl rfl) on_if
theorem s_40_42 : S40 42 (ia_k 43 0) := sa_n (snd_iconst dX0_end_2_42 rfl (okI_c rfl) rfl) on_k
theorem s_40_43 : S40 43 (ia_retZ) := sa_t (st_retZ dX0_end_2_43 rfl) on_retZ
theorem s_40_44 : S40 44 (ia_al 45 0) := sa_n (snd_aload_n dX0_end_2_44 rfl rfl) on_al
theorem s_40_45 : S40 45 (ia_gfR 48 1 16) := sa_n (snd_gfR ci_1 (k := 16) (lt_c rfl) dX0_end_2_45 (Or.inl q898) (Or.inl rfl) (fun _ _ _ _ => rfl) rfl rfl) on_gfR
theorem s_40_48 : S40 48 (ia_il 49 3) := sa_n (snd_iload_n dX0_end_2_48 rfl rfl) on_il
theorem s_40_49 : S40 49 (ia_if k0n 52 65) := sa_b (sndB_if_ne dX0_end_2_49 rfl rfl) on_if
theorem s_40_52 : S40 52 (ia_al 53 0) := sa_n (snd_aload_n dX0_end_2_52 rfl rfl) on_al
theorem s_40_53 : S40 53 (ia_gfR 56 1 11) := sa_n (snd_gfR ci_1 (k := 11) (lt_c rfl) dX0_end_2_53 (Or.inl q892) (Or.inl rfl) (fun _ _ _ _ => rfl) rfl rfl) on_gfR
theorem s_40_56 : S40 56 (ia_gfR 59 4 0) := sa_n (snd_gfR ci_4 (k := 0) (lt_c rfl) dX0_end_2_56 (Or.inr ⟨_, q781⟩) (Or.inl rfl) (fun _ _ _ _ => rfl) rfl rfl) on_gfR
theorem s_40_59 : S40 59 (ia_il 61 5) := sa_n (snd_iload dX0_end_2_59 rfl) on_il
theorem s_40_61 : S40 61 (ia_ldR 62 106) := sa_n (snd_aaload (by decide) dX0_end_2_61 rfl) on_ldR
theorem s_40_62 : S40 62 (ia_go 75) := sa_n (snd_goto dX0_end_2_62 rfl) on_go
theorem s_40_65 : S40 65 (ia_al 66 0) := sa_n (snd_aload_n dX0_end_2_65 rfl rfl) on_al
theorem s_40_66 : S40 66 (ia_gfR 69 1 11) := sa_n (snd_gfR ci_1 (k := 11) (lt_c rfl) dX0_end_2_66 (Or.inl q892) (Or.inl rfl) (fun _ _ _ _ => rfl) rfl rfl) on_gfR
theorem s_40_69 : S40 69 (ia_gfR 72 4 1) := sa_n (snd_gfR ci_4 (k := 1) (lt_c rfl) dX0_end_2_69 (Or.inr ⟨_, q783⟩) (Or.inl rfl) (fun _ _ _ _ => rfl) rfl rfl) on_gfR
theorem s_40_72 : S40 72 (ia_il 74 5) := sa_n (snd_iload dX0_end_2_72 rfl) on_il
theorem s_40_74 : S40 74 (ia_ldR 75 106) := sa_n (snd_aaload (by decide) dX0_end_2_74 rfl) on_ldR
theorem s_40_75 : S40 75 (ia_call 78 2 2 79 2) := sk_V me_79 q1055 dX0_end_2_75 rfl
theorem s_40_78 : S40 78 (ia_al 79 0) := sa_n (snd_aload_n dX0_end_2_78 rfl rfl) on_al
theorem s_40_79 : S40 79 (ia_gfR 82 1 17) := sa_n (snd_gfR ci_1 (k := 17) (lt_c rfl) dX0_end_2_79 (Or.inl q899) (Or.inl rfl) (fun _ _ _ _ => rfl) rfl rfl) on_gfR
theorem s_40_82 : S40 82 (ia_il 83 3) := sa_n (snd_iload_n dX0_end_2_82 rfl rfl) on_il
theorem s_40_83 : S40 83 (ia_if k0n 86 99) := sa_b (sndB_if_ne dX0_end_2_83 rfl rfl) on_if
theorem s_40_86 : S40 86 (ia_al 87 0) := sa_n (snd_aload_n dX0_end_2_86 rfl rfl) on_al
theorem s_40_87 : S40 87 (ia_gfR 90 1 11) := sa_n (snd_gfR ci_1 (k := 11) (lt_c rfl) dX0_end_2_87 (Or.inl q892) (Or.inl rfl) (fun _ _ _ _ => rfl) rfl rfl) on_gfR
theorem s_40_90 : S40 90 (ia_gfR 93 4 1) := sa_n (snd_gfR ci_4 (k := 1) (lt_c rfl) dX0_end_2_90 (Or.inr ⟨_, q783⟩) (Or.inl rfl) (fun _ _ _ _ => rfl) rfl rfl) on_gfR
theorem s_40_93 : S40 93 (ia_il 95 5) := sa_n (snd_iload dX0_end_2_93 rfl) on_il
theorem s_40_95 : S40 95 (ia_ldR 96 106) := sa_n (snd_aaload (by decide) dX0_end_2_95 rfl) on_ldR
theorem s_40_96 : S40 96 (ia_go 109) := sa_n (snd_goto dX0_end_2_96 rfl) on_go
theorem s_40_99 : S40 99 (ia_al 100 0) := sa_n (snd_aload_n dX0_end_2_99 rfl rfl) on_al
theorem s_40_100 : S40 100 (ia_gfR 103 1 11) := sa_n (snd_gfR ci_1 (k := 11) (lt_c rfl) dX0_end_2_100 (Or.inl q892) (Or.inl rfl) (fun _ _ _ _ => rfl) rfl rfl) on_gfR
theorem s_40_103 : S40 103 (ia_gfR 106 4 0) := sa_n (snd_gfR ci_4 (k := 0) (lt_c rfl) dX0_end_2_103 (Or.inr ⟨_, q781⟩) (Or.inl rfl) (fun _ _ _ _ => rfl) rfl rfl) on_gfR
theorem s_40_106 : S40 106 (ia_il 108 5) := sa_n (snd_iload dX0_end_2_106 rfl) on_il
theorem s_40_108 : S40 108 (ia_ldR 109 106) := sa_n (snd_aaload (by decide) dX0_end_2_108 rfl) on_ldR
theorem s_40_109 : S40 109 (ia_call 112 2 2 79 2) := sk_V me_79 q1055 dX0_end_2_109 rfl
theorem s_40_112 : S40 112 (ia_al 113 0) := sa_n (snd_aload_n dX0_end_2_112 rfl rfl) on_al
theorem s_40_113 : S40 113 (ia_al 114 0) := sa_n (snd_aload_n dX0_end_2_113 rfl rfl) on_al
theorem s_40_114 : S40 114 (ia_gfI 117 1 18) := sa_n (snd_gfI ci_1 (k := 18) (lt_c rfl) dX0_end_2_114 (Or.inl q900) (Or.inl rfl) (fun _ _ _ _ => rfl) rfl rfl) on_gfI
theorem s_40_117 : S40 117 (ia_if k0n 120 133) := sa_b (sndB_if_ne dX0_end_2_117 rfl rfl) on_if
theorem s_40_120 : S40 120 (ia_al 121 0) := sa_n (snd_aload_n dX0_end_2_120 rfl rfl) on_al
theorem s_40_121 : S40 121 (ia_gfR 124 1 11) := sa_n (snd_gfR ci_1 (k := 11) (lt_c rfl) dX0_end_2_121 (Or.inl q892) (Or.inl rfl) (fun _ _ _ _ => rfl) rfl rfl) on_gfR
theorem s_40_124 : S40 124 (ia_gfR 127 4 5) := sa_n (snd_gfR ci_4 (k := 5) (lt_c rfl) dX0_end_2_124 (Or.inr ⟨_, q789⟩) (Or.inl rfl) (fun _ _ _ _ => rfl) rfl rfl) on_gfR
theorem s_40_127 : S40 127 (ia_il 129 5) := sa_n (snd_iload dX0_end_2_127 rfl) on_il
theorem s_40_129 : S40 129 (ia_ldI 130 101) := sa_n (snd_zaload dX0_end_2_129 rfl) on_ldI
theorem s_40_130 : S40 130 (ia_if k0e 133 137) := sa_b (sndB_if_eq dX0_end_2_130 rfl rfl) on_if
theorem s_40_133 : S40 133 (ia_k 134 1) := sa_n (snd_iconst dX0_end_2_133 rfl (okI_c rfl) rfl) on_k
theorem s_40_134 : S40 134 (ia_go 138) := sa_n (snd_goto dX0_end_2_134 rfl) on_go
theorem s_40_137 : S40 137 (ia_k 138 0) := sa_n (snd_iconst dX0_end_2_137 rfl (okI_c rfl) rfl) on_k
theorem s_40_138 : S40 138 (ia_pfZ 141 1 18) := sa_n (snd_pfZ ci_1 (k := 18) (lt_c rfl) dX0_end_2_138 q900 (Or.inl rfl) (Or.inl rfl) (rfl) rfl rfl) on_pfZ
theorem s_40_141 : S40 141 (ia_k 142 1) := sa_n (snd_iconst dX0_end_2_141 rfl (okI_c rfl) rfl) on_k
theorem s_40_142 : S40 142 (ia_retZ) := sa_t (st_retZ dX0_end_2_142 rfl) on_retZ
theorem sa_40_0 (pc : Nat) : S40 pc (cd_40_0 pc) := sa_c (sa_c (sa_c (sa_c (sa_c (sa_l s_40_0) (sa_l s_40_2)) (sa_c (sa_l s_40_3) (sa_l s_40_4))) (sa_c (sa_c (sa_l s_40_6) (sa_l s_40_7)) (sa_c (sa_l s_40_10) (sa_c (sa_l s_40_12) (sa_l s_40_13))))) (sa_c (sa_c (sa_c (sa_l s_40_14) (sa_l s_40_16)) (sa_c (sa_l s_40_17) (sa_l s_40_20))) (sa_c (sa_c (sa_l s_40_22) (sa_l s_40_24)) (sa_c (sa_l s_40_25) (sa_c (sa_l s_40_26) (sa_l s_40_27)))))) (sa_c (sa_c (sa_c (sa_c (sa_l s_40_29) (sa_l s_40_30)) (sa_c (sa_l s_40_33) (sa_l s_40_36))) (sa_c (sa_c (sa_l s_40_38) (sa_l s_40_39)) (sa_c (sa_l s_40_42) (sa_c (sa_l s_40_43) (sa_l s_40_44))))) (sa_c (sa_c (sa_c (sa_l s_40_45) (sa_l s_40_48)) (sa_c (sa_l s_40_49) (sa_c (sa_l s_40_52) (sa_l s_40_53)))) (sa_c (sa_c (sa_l s_40_56) (sa_l s_40_59)) (sa_c (sa_l s_40_61) (sa_c (sa_l s_40_62) (sa_l s_40_65))))))
theorem sa_40_1 (pc : Nat) : S40 pc (cd_40_1 pc) := sa_c (sa_c (sa_c (sa_c (sa_c (sa_l s_40_66) (sa_l s_40_69)) (sa_c (sa_l s_40_72) (sa_l s_40_74))) (sa_c (sa_c (sa_l s_40_75) (sa_l s_40_78)) (sa_c (sa_l s_40_79) (sa_c (sa_l s_40_82) (sa_l s_40_83))))) (sa_c (sa_c (sa_c (sa_l s_40_86) (sa_l s_40_87)) (sa_c (sa_l s_40_90) (sa_l s_40_93))) (sa_c (sa_c (sa_l s_40_95) (sa_l s_40_96)) (sa_c (sa_l s_40_99) (sa_c (sa_l s_40_100) (sa_l s_40_103)))))) (sa_c (sa_c (sa_c (sa_c (sa_l s_40_106) (sa_l s_40_108)) (sa_c (sa_l s_40_109) (sa_l s_40_112))) (sa_c (sa_c (sa_l s_40_113) (sa_l s_40_114)) (sa_c (sa_l s_40_117) (sa_c (sa_l s_40_120) (sa_l s_40_121))))) (sa_c (sa_c (sa_c (sa_l s_40_124) (sa_l s_40_127)) (sa_c (sa_l s_40_129) (sa_c (sa_l s_40_130) (sa_l s_40_133)))) (sa_c (sa_c (sa_l s_40_134) (sa_l s_40_137)) (sa_c (sa_l s_40_138) (sa_c (sa_l s_40_141) (sa_l s_40_142))))))
theorem sa_40 (pc : Nat) : S40 pc (cd_40 pc) := sa_c (sa_40_0 pc) (sa_40_1 pc)
abbrev S41 (pc : Nat) (x : XI) : Prop := SA "WeekFoot" cX0_plus 5 "plus" (none) pc x
theorem s_41_0 : S41 0 (ia_k 1 0) := sa_n (snd_iconst dX0_plus_0 rfl (okI_c rfl) rfl) on_k
theorem s_41_1 : S41 1 (ia_is 2 2) := sa_n (snd_istore_n dX0_plus_1 rfl (lt_c rfl) rfl) on_is
theorem s_41_2 : S41 2 (ia_k 3 0) := sa_n (snd_iconst dX0_plus_2 rfl (okI_c rfl) rfl) on_k
theorem s_41_3 : S41 3 (ia_is 4 3) := sa_n (snd_istore_n dX0_plus_3 rfl (lt_c rfl) rfl) on_is
theorem s_41_4 : S41 4 (ia_keep [0, 1, 2, 3] (ia_il 5 3)) := sa_nk (snd_iload_n dX0_plus_4 rfl rfl) on_il
theorem s_41_5 : S41 5 (ia_k 7 7) := sa_n (snd_bipush dX0_plus_5 (by decide) (okI_c rfl) rfl) on_k
theorem s_41_7 : S41 7 (ia_ic k2g 10 61) := sa_b (sndB_ic_ge dX0_plus_7 rfl rfl) on_ic
theorem s_41_10 : S41 10 (ia_al 11 0) := sa_n (snd_aload_n dX0_plus_10 rfl rfl) on_al
theorem s_41_11 : S41 11 (ia_gfR 14 2 0) := sa_n (snd_gfR ci_2 (k := 0) (lt_c rfl) dX0_plus_11 (Or.inr ⟨_, q766⟩) (Or.inl rfl) (fun _ _ _ _ => rfl) rfl rfl) on_gfR
theorem s_41_14 : S41 14 (ia_il 15 3) := sa_n (snd_iload_n dX0_plus_14 rfl rfl) on_il
theorem s_41_15 : S41 15 (ia_ldI 16 100) := sa_n (snd_iaload dX0_plus_15 rfl) on_ldI
theorem s_41_16 : S41 16 (ia_al 17 1) := sa_n (snd_aload_n dX0_plus_16 rfl rfl) on_al
theorem s_41_17 : S41 17 (ia_gfR 20 2 0) := sa_n (snd_gfR ci_2 (k := 0) (lt_c rfl) dX0_plus_17 (Or.inr ⟨_, q766⟩) (Or.inl rfl) (fun _ _ _ _ => rfl) rfl rfl) on_gfR
theorem s_41_20 : S41 20 (ia_il 21 3) := sa_n (snd_iload_n dX0_plus_20 rfl rfl) on_il
theorem s_41_21 : S41 21 (ia_ldI 22 100) := sa_n (snd_iaload dX0_plus_21 rfl) on_ldI
theorem s_41_22 : S41 22 (ia_add 23) := sa_n (snd_iadd dX0_plus_22 rfl) on_add
theorem s_41_23 : S41 23 (ia_il 24 2) := sa_n (snd_iload_n dX0_plus_23 rfl rfl) on_il
theorem s_41_24 : S41 24 (ia_add 25) := sa_n (snd_iadd dX0_plus_24 rfl) on_add
theorem s_41_25 : S41 25 (ia_is 27 4) := sa_n (snd_istore dX0_plus_25 (lt_c rfl) rfl) on_is
theorem s_41_27 : S41 27 (ia_il 29 4) := sa_n (snd_iload dX0_plus_27 rfl) on_il
theorem s_41_29 : S41 29 (ia_k 32 1000000000) := sa_n (snd_ldcw dX0_plus_29 q1108 (by decide) (okI_c rfl) rfl) on_k
theorem s_41_32 : S41 32 (ia_ic k2l 35 39) := sa_b (sndB_ic_lt dX0_plus_32 rfl rfl) on_ic
theorem s_41_35 : S41 35 (ia_k 36 1) := sa_n (snd_iconst dX0_plus_35 rfl (okI_c rfl) rfl) on_k
theorem s_41_36 : S41 36 (ia_go 40) := sa_n (snd_goto dX0_plus_36 rfl) on_go
theorem s_41_39 : S41 39 (ia_k 40 0) := sa_n (snd_iconst dX0_plus_39 rfl (okI_c rfl) rfl) on_k
theorem s_41_40 : S41 40 (ia_is 41 2) := sa_n (snd_istore_n dX0_plus_40 rfl (lt_c rfl) rfl) on_is
theorem s_41_41 : S41 41 (ia_al 42 0) := sa_n (snd_aload_n dX0_plus_41 rfl rfl) on_al
theorem s_41_42 : S41 42 (ia_gfR 45 2 0) := sa_n (snd_gfR ci_2 (k := 0) (lt_c rfl) dX0_plus_42 (Or.inr ⟨_, q766⟩) (Or.inl rfl) (fun _ _ _ _ => rfl) rfl rfl) on_gfR
theorem s_41_45 : S41 45 (ia_il 46 3) := sa_n (snd_iload_n dX0_plus_45 rfl rfl) on_il
theorem s_41_46 : S41 46 (ia_il 48 4) := sa_n (snd_iload dX0_plus_46 rfl) on_il
theorem s_41_48 : S41 48 (ia_il 49 2) := sa_n (snd_iload_n dX0_plus_48 rfl rfl) on_il
theorem s_41_49 : S41 49 (ia_k 52 1000000000) := sa_n (snd_ldcw dX0_plus_49 q1108 (by decide) (okI_c rfl) rfl) on_k
theorem s_41_52 : S41 52 (ia_mul 53) := sa_n (snd_imul dX0_plus_52 rfl) on_mul
theorem s_41_53 : S41 53 (ia_sub 54) := sa_n (snd_isub dX0_plus_53 rfl) on_sub
theorem s_41_54 : S41 54 (ia_stI 55) := sa_n (snd_iastore dX0_plus_54 rfl) on_stI
theorem s_41_55 : S41 55 (ia_inc 58 3 1) := sa_n (snd_iinc dX0_plus_55 rfl (lt_c rfl) rfl) on_inc
theorem s_41_58 : S41 58 (ia_go 4) := sa_n (snd_goto dX0_plus_58 rfl) on_go
theorem s_41_61 : S41 61 (ia_ret0) := sa_t (st_ret0 dX0_plus_61 rfl) on_ret0
theorem sa_41 (pc : Nat) : S41 pc (cd_41 pc) := sa_c (sa_c (sa_c (sa_c (sa_c (sa_l s_41_0) (sa_l s_41_1)) (sa_c (sa_l s_41_2) (sa_l s_41_3))) (sa_c (sa_c (sa_l s_41_4) (sa_l s_41_5)) (sa_c (sa_l s_41_7) (sa_c (sa_l s_41_10) (sa_l s_41_11))))) (sa_c (sa_c (sa_c (sa_l s_41_14) (sa_l s_41_15)) (sa_c (sa_l s_41_16) (sa_c (sa_l s_41_17) (sa_l s_41_20)))) (sa_c (sa_c (sa_l s_41_21) (sa_l s_41_22)) (sa_c (sa_l s_41_23) (sa_c (sa_l s_41_24) (sa_l s_41_25)))))) (sa_c (sa_c (sa_c (sa_c (sa_l s_41_27) (sa_l s_41_29)) (sa_c (sa_l s_41_32) (sa_l s_41_35))) (sa_c (sa_c (sa_l s_41_36) (sa_l s_41_39)) (sa_c (sa_l s_41_40) (sa_c (sa_l s_41_41) (sa_l s_41_42))))) (sa_c (sa_c (sa_c (sa_l s_41_45) (sa_l s_41_46)) (sa_c (sa_l s_41_48) (sa_c (sa_l s_41_49) (sa_l s_41_52)))) (sa_c (sa_c (sa_l s_41_53) (sa_l s_41_54)) (sa_c (sa_l s_41_55) (sa_c (sa_l s_41_58) (sa_l s_41_61))))))
abbrev S42 (pc : Nat) (x : XI) : Prop := SA "WeekFoot" cX0_cuts 4 "cuts" (some .int) pc x
theorem s_42_0 : S42 0 (ia_al 1 0) := sa_n (snd_aload_n dX0_cuts_0 rfl rfl) on_al
theorem s_42_1 : S42 1 (ia_al 2 0) := sa_n (snd_aload_n dX0_cuts_1 rfl rfl) on_al
theorem s_42_2 : S42 2 (ia_gfR 5 1 14) := sa_n (snd_gfR ci_1 (k := 14) (lt_c rfl) dX0_cuts_2 (Or.inl q896) (Or.inl rfl) (fun _ _ _ _ => rfl) rfl rfl) on_gfR
theorem s_42_5 : S42 5 (ia_k 6 1) := sa_n (snd_iconst dX0_cuts_5 rfl (okI_c rfl) rfl) on_k
theorem s_42_6 : S42 6 (ia_al 7 0) := sa_n (snd_aload_n dX0_cuts_6 rfl rfl) on_al
theorem s_42_7 : S42 7 (ia_gfR 10 1 15) := sa_n (snd_gfR ci_1 (k := 15) (lt_c rfl) dX0_cuts_7 (Or.inl q897) (Or.inl rfl) (fun _ _ _ _ => rfl) rfl rfl) on_gfR
theorem s_42_10 : S42 10 (ia_il 11 2) := sa_n (snd_iload_n dX0_cuts_10 rfl rfl) on_il
theorem s_42_11 : S42 11 (ia_k 12 1) := sa_n (snd_iconst dX0_cuts_11 rfl (okI_c rfl) rfl) on_k
theorem s_42_12 : S42 12 (ia_add 13) := sa_n (snd_iadd dX0_cuts_12 rfl) on_add
theorem s_42_13 : S42 13 (ia_call 16 5 1 31 8) := sk_V me_31 q1051 dX0_cuts_13 rfl
theorem s_42_16 : S42 16 (ia_is 17 3) := sa_n (snd_istore_n dX0_cuts_16 rfl (lt_c rfl) rfl) on_is
theorem s_42_17 : S42 17 (ia_al 18 0) := sa_n (snd_aload_n dX0_cuts_17 rfl rfl) on_al
theorem s_42_18 : S42 18 (ia_gfR 21 1 3) := sa_n (snd_gfR ci_1 (k := 3) (lt_c rfl) dX0_cuts_18 (Or.inl q878) (Or.inl rfl) (fun _ _ _ _ => rfl) rfl rfl) on_gfR
theorem s_42_21 : S42 21 (ia_al 22 0) := sa_n (snd_aload_n dX0_cuts_21 rfl rfl) on_al
theorem s_42_22 : S42 22 (ia_gfR 25 1 15) := sa_n (snd_gfR ci_1 (k := 15) (lt_c rfl) dX0_cuts_22 (Or.inl q897) (Or.inl rfl) (fun _ _ _ _ => rfl) rfl rfl) on_gfR
theorem s_42_25 : S42 25 (ia_call 28 2 2 79 2) := sk_V me_79 q1055 dX0_cuts_25 rfl
theorem s_42_28 : S42 28 (ia_al 29 0) := sa_n (snd_aload_n dX0_cuts_28 rfl rfl) on_al
theorem s_42_29 : S42 29 (ia_gfR 32 1 3) := sa_n (snd_gfR ci_1 (k := 3) (lt_c rfl) dX0_cuts_29 (Or.inl q878) (Or.inl rfl) (fun _ _ _ _ => rfl) rfl rfl) on_gfR
theorem s_42_32 : S42 32 (ia_il 33 3) := sa_n (snd_iload_n dX0_cuts_32 rfl rfl) on_il
theorem s_42_33 : S42 33 (ia_call 36 2 2 80 5) := sk_V me_80 q1056 dX0_cuts_33 rfl
theorem s_42_36 : S42 36 (ia_il 37 2) := sa_n (snd_iload_n dX0_cuts_36 rfl rfl) on_il
theorem s_42_37 : S42 37 (ia_il 38 1) := sa_n (snd_iload_n dX0_cuts_37 rfl rfl) on_il
theorem s_42_38 : S42 38 (ia_k 39 1) := sa_n (snd_iconst dX0_cuts_38 rfl (okI_c rfl) rfl) on_k
theorem s_42_39 : S42 39 (ia_ic k2n 42 69) := sa_b (sndB_ic_ne dX0_cuts_39 rfl rfl) on_ic
theorem s_42_42 : S42 42 (ia_al 43 0) := sa_n (snd_aload_n dX0_cuts_42 rfl rfl) on_al
theorem s_42_43 : S42 43 (ia_gfI 46 1 18) := sa_n (snd_gfI ci_1 (k := 18) (lt_c rfl) dX0_cuts_43 (Or.inl q900) (Or.inl rfl) (fun _ _ _ _ => rfl) rfl rfl) on_gfI
theorem s_42_46 : S42 46 (ia_if k0e 49 69) := sa_b (sndB_if_eq dX0_cuts_46 rfl rfl) on_if
theorem s_42_49 : S42 49 (ia_al 50 0) := sa_n (snd_aload_n dX0_cuts_49 rfl rfl) on_al
theorem s_42_50 : S42 50 (ia_gfR 53 1 3) := sa_n (snd_gfR ci_1 (k := 3) (lt_c rfl) dX0_cuts_50 (Or.inl q878) (Or.inl rfl) (fun _ _ _ _ => rfl) rfl rfl) on_gfR
theorem s_42_53 : S42 53 (ia_al 54 0) := sa_n (snd_aload_n dX0_cuts_53 rfl rfl) on_al
theorem s_42_54 : S42 54 (ia_gfR 57 1 14) := sa_n (snd_gfR ci_1 (k := 14) (lt_c rfl) dX0_cuts_54 (Or.inl q896) (Or.inl rfl) (fun _ _ _ _ => rfl) rfl rfl) on_gfR
theorem s_42_57 : S42 57 (ia_call 60 2 2 78 3) := sk_V me_78 q1061 dX0_cuts_57 rfl
theorem s_42_60 : S42 60 (ia_if k0n 63 69) := sa_b (sndB_if_ne dX0_cuts_60 rfl rfl) on_if
theorem s_42_63 : S42 63 (ia_il 64 3) := sa_n (snd_iload_n dX0_cuts_63 rfl rfl) on_il
theorem s_42_64 : S42 64 (ia_k 65 1) := sa_n (snd_iconst dX0_cuts_64 rfl (okI_c rfl) rfl) on_k
theorem s_42_65 : S42 65 (ia_sub 66) := sa_n (snd_isub dX0_cuts_65 rfl) on_sub
theorem s_42_66 : S42 66 (ia_go 70) := sa_n (snd_goto dX0_cuts_66 rfl) on_go
theorem s_42_69 : S42 69 (ia_il 70 3) := sa_n (snd_iload_n dX0_cuts_69 rfl rfl) on_il
theorem s_42_70 : S42 70 (ia_stat 73 2 262 2) := sk_S me_262 q1074 dX0_cuts_70 rfl
theorem s_42_73 : S42 73 (ia_retI) := sa_t (st_retI dX0_cuts_73 rfl) on_retI
theorem sa_42 (pc : Nat) : S42 pc (cd_42 pc) := sa_c (sa_c (sa_c (sa_c (sa_c (sa_l s_42_0) (sa_l s_42_1)) (sa_c (sa_l s_42_2) (sa_c (sa_l s_42_5) (sa_l s_42_6)))) (sa_c (sa_c (sa_l s_42_7) (sa_l s_42_10)) (sa_c (sa_l s_42_11) (sa_c (sa_l s_42_12) (sa_l s_42_13))))) (sa_c (sa_c (sa_c (sa_l s_42_16) (sa_l s_42_17)) (sa_c (sa_l s_42_18) (sa_c (sa_l s_42_21) (sa_l s_42_22)))) (sa_c (sa_c (sa_l s_42_25) (sa_l s_42_28)) (sa_c (sa_l s_42_29) (sa_c (sa_l s_42_32) (sa_l s_42_33)))))) (sa_c (sa_c (sa_c (sa_c (sa_l s_42_36) (sa_l s_42_37)) (sa_c (sa_l s_42_38) (sa_c (sa_l s_42_39) (sa_l s_42_42)))) (sa_c (sa_c (sa_l s_42_43) (sa_l s_42_46)) (sa_c (sa_l s_42_49) (sa_c (sa_l s_42_50) (sa_l s_42_53))))) (sa_c (sa_c (sa_c (sa_l s_42_54) (sa_l s_42_57)) (sa_c (sa_l s_42_60) (sa_c (sa_l s_42_63) (sa_l s_42_64)))) (sa_c (sa_c (sa_l s_42_65) (sa_l s_42_66)) (sa_c (sa_l s_42_69) (sa_c (sa_l s_42_70) (sa_l s_42_73))))))
abbrev S43 (pc : Nat) (x : XI) : Prop := SA "WeekFoot" cX0_area 5 "area" (some .int) pc x
theorem s_43_0 : S43 0 (ia_al 1 0) := sa_n (snd_aload_n dX0_area_0 rfl rfl) on_al
theorem s_43_1 : S43 1 (ia_il 2 1) := sa_n (snd_iload_n dX0_area_1 rfl rfl) on_il
theorem s_43_2 : S43 2 (ia_il 3 3) := sa_n (snd_iload_n dX0_area_2 rfl rfl) on_il
theorem s_43_3 : S43 3 (ia_call 6 3 1 39 3) := sk_V me_39 q1096 dX0_area_3 rfl
theorem s_43_6 : S43 6 (ia_if k0e 9 38) := sa_b (sndB_if_eq dX0_area_6 rfl rfl) on_if
theorem s_43_9 : S43 9 (ia_al 10 0) := sa_n (snd_aload_n dX0_area_9 rfl rfl) on_al
theorem s_43_10 : S43 10 (ia_il 11 2) := sa_n (snd_iload_n dX0_area_10 rfl rfl) on_il
theorem s_43_11 : S43 11 (ia_il 12 3) := sa_n (snd_iload_n dX0_area_11 rfl rfl) on_il
theorem s_43_12 : S43 12 (ia_call 15 3 1 39 3) := sk_V me_39 q1096 dX0_area_12 rfl
theorem s_43_15 : S43 15 (ia_if k0e 18 38) := sa_b (sndB_if_eq dX0_area_15 rfl rfl) on_if
theorem s_43_18 : S43 18 (ia_il 20 4) := sa_n (snd_iload dX0_area_18 rfl) on_il
theorem s_43_20 : S43 20 (ia_k 21 0) := sa_n (snd_iconst dX0_area_20 rfl (okI_c rfl) rfl) on_k
theorem s_43_21 : S43 21 (ia_k 22 1) := sa_n (snd_iconst dX0_area_21 rfl (okI_c rfl) rfl) on_k
theorem s_43_22 : S43 22 (ia_stat 25 3 2 3) := sk_S me_2 q138 dX0_area_22 rfl
theorem s_43_25 : S43 25 (ia_if k0e 28 38) := sa_b (sndB_if_eq dX0_area_25 rfl rfl) on_if
theorem s_43_28 : S43 28 (ia_al 29 0) := sa_n (snd_aload_n dX0_area_28 rfl rfl) on_al
theorem s_43_29 : S43 29 (ia_gfR 32 1 11) := sa_n (snd_gfR ci_1 (k := 11) (lt_c rfl) dX0_area_29 (Or.inl q892) (Or.inl rfl) (fun _ _ _ _ => rfl) rfl rfl) on_gfR
theorem s_43_32 : S43 32 (ia_call 35 1 4 88 1) := sk_V me_88 q971 dX0_area_32 rfl
theorem s_43_35 : S43 35 (ia_if k0n 38 41) := sa_b (sndB_if_ne dX0_area_35 rfl rfl) on_if
theorem s_43_38 : S43 38 (ia_k 40 (-2)) := sa_n (snd_bipush dX0_area_38 (by decide) (okI_c rfl) rfl) on_k
theorem s_43_40 : S43 40 (ia_retI) := sa_t (st_retI dX0_area_40 rfl) on_retI
theorem s_43_41 : S43 41 (ia_al 42 0) := sa_n (snd_aload_n dX0_area_41 rfl rfl) on_al
theorem s_43_42 : S43 42 (ia_k 43 0) := sa_n (snd_iconst dX0_area_42 rfl (okI_c rfl) rfl) on_k
theorem s_43_43 : S43 43 (ia_pfZ 46 1 18) := sa_n (snd_pfZ ci_1 (k := 18) (lt_c rfl) dX0_area_43 q900 (Or.inl rfl) (Or.inl rfl) (rfl) rfl rfl) on_pfZ
theorem s_43_46 : S43 46 (ia_al 47 0) := sa_n (snd_aload_n dX0_area_46 rfl rfl) on_al
theorem s_43_47 : S43 47 (ia_il 48 1) := sa_n (snd_iload_n dX0_area_47 rfl rfl) on_il
theorem s_43_48 : S43 48 (ia_il 49 3) := sa_n (snd_iload_n dX0_area_48 rfl rfl) on_il
theorem s_43_49 : S43 49 (ia_il 51 4) := sa_n (snd_iload dX0_area_49 rfl) on_il
theorem s_43_51 : S43 51 (ia_call 54 4 1 40 6) := sk_V me_40 q1101 dX0_area_51 rfl
theorem s_43_54 : S43 54 (ia_if k0n 57 68) := sa_b (sndB_if_ne dX0_area_54 rfl rfl) on_if
theorem s_43_57 : S43 57 (ia_il 59 4) := sa_n (snd_iload dX0_area_57 rfl) on_il
theorem s_43_59 : S43 59 (ia_if k0n 62 66) := sa_b (sndB_if_ne dX0_area_59 rfl rfl) on_if
theorem s_43_62 : S43 62 (ia_k 63 0) := sa_n (snd_iconst dX0_area_62 rfl (okI_c rfl) rfl) on_k
theorem s_43_63 : S43 63 (ia_go 67) := sa_n (snd_goto dX0_area_63 rfl) on_go
theorem s_43_66 : S43 66 (ia_k 67 (-1)) := sa_n (snd_iconst dX0_area_66 rfl (okI_c rfl) rfl) on_k
theorem s_43_67 : S43 67 (ia_retI) := sa_t (st_retI dX0_area_67 rfl) on_retI
theorem s_43_68 : S43 68 (ia_al 69 0) := sa_n (snd_aload_n dX0_area_68 rfl rfl) on_al
theorem s_43_69 : S43 69 (ia_gfR 72 1 14) := sa_n (snd_gfR ci_1 (k := 14) (lt_c rfl) dX0_area_69 (Or.inl q896) (Or.inl rfl) (fun _ _ _ _ => rfl) rfl rfl) on_gfR
theorem s_43_72 : S43 72 (ia_al 73 0) := sa_n (snd_aload_n dX0_area_72 rfl rfl) on_al
theorem s_43_73 : S43 73 (ia_gfR 76 1 16) := sa_n (snd_gfR ci_1 (k := 16) (lt_c rfl) dX0_area_73 (Or.inl q898) (Or.inl rfl) (fun _ _ _ _ => rfl) rfl rfl) on_gfR
theorem s_43_76 : S43 76 (ia_call 79 2 2 79 2) := sk_V me_79 q1055 dX0_area_76 rfl
theorem s_43_79 : S43 79 (ia_al 80 0) := sa_n (snd_aload_n dX0_area_79 rfl rfl) on_al
theorem s_43_80 : S43 80 (ia_gfR 83 1 15) := sa_n (snd_gfR ci_1 (k := 15) (lt_c rfl) dX0_area_80 (Or.inl q897) (Or.inl rfl) (fun _ _ _ _ => rfl) rfl rfl) on_gfR
theorem s_43_83 : S43 83 (ia_al 84 0) := sa_n (snd_aload_n dX0_area_83 rfl rfl) on_al
theorem s_43_84 : S43 84 (ia_gfR 87 1 17) := sa_n (snd_gfR ci_1 (k := 17) (lt_c rfl) dX0_area_84 (Or.inl q899) (Or.inl rfl) (fun _ _ _ _ => rfl) rfl rfl) on_gfR
theorem s_43_87 : S43 87 (ia_call 90 2 2 79 2) := sk_V me_79 q1055 dX0_area_87 rfl
theorem s_43_90 : S43 90 (ia_al 91 0) := sa_n (snd_aload_n dX0_area_90 rfl rfl) on_al
theorem s_43_91 : S43 91 (ia_il 92 2) := sa_n (snd_iload_n dX0_area_91 rfl rfl) on_il
theorem s_43_92 : S43 92 (ia_il 93 3) := sa_n (snd_iload_n dX0_area_92 rfl rfl) on_il
theorem s_43_93 : S43 93 (ia_il 95 4) := sa_n (snd_iload dX0_area_93 rfl) on_il
theorem s_43_95 : S43 95 (ia_call 98 4 1 40 6) := sk_V me_40 q1101 dX0_area_95 rfl
theorem s_43_98 : S43 98 (ia_if k0n 101 112) := sa_b (sndB_if_ne dX0_area_98 rfl rfl) on_if
theorem s_43_101 : S43 101 (ia_il 103 4) := sa_n (snd_iload dX0_area_101 rfl) on_il
theorem s_43_103 : S43 103 (ia_if k0n 106 110) := sa_b (sndB_if_ne dX0_area_103 rfl rfl) on_if
theorem s_43_106 : S43 106 (ia_k 107 0) := sa_n (snd_iconst dX0_area_106 rfl (okI_c rfl) rfl) on_k
theorem s_43_107 : S43 107 (ia_go 111) := sa_n (snd_goto dX0_area_107 rfl) on_go
theorem s_43_110 : S43 110 (ia_k 111 (-1)) := sa_n (snd_iconst dX0_area_110 rfl (okI_c rfl) rfl) on_k
theorem s_43_111 : S43 111 (ia_retI) := sa_t (st_retI dX0_area_111 rfl) on_retI
theorem s_43_112 : S43 112 (ia_al 113 0) := sa_n (snd_aload_n dX0_area_112 rfl rfl) on_al
theorem s_43_113 : S43 113 (ia_gfR 116 1 2) := sa_n (snd_gfR ci_1 (k := 2) (lt_c rfl) dX0_area_113 (Or.inl q876) (Or.inl rfl) (fun _ _ _ _ => rfl) rfl rfl) on_gfR
theorem s_43_116 : S43 116 (ia_al 117 0) := sa_n (snd_aload_n dX0_area_116 rfl rfl) on_al
theorem s_43_117 : S43 117 (ia_gfR 120 1 14) := sa_n (snd_gfR ci_1 (k := 14) (lt_c rfl) dX0_area_117 (Or.inl q896) (Or.inl rfl) (fun _ _ _ _ => rfl) rfl rfl) on_gfR
theorem s_43_120 : S43 120 (ia_al 121 0) := sa_n (snd_aload_n dX0_area_120 rfl rfl) on_al
theorem s_43_121 : S43 121 (ia_gfR 124 1 16) := sa_n (snd_gfR ci_1 (k := 16) (lt_c rfl) dX0_area_121 (Or.inl q898) (Or.inl rfl) (fun _ _ _ _ => rfl) rfl rfl) on_gfR
theorem s_43_124 : S43 124 (ia_call 127 3 2 77 7) := sk_V me_77 q1084 dX0_area_124 rfl
theorem s_43_127 : S43 127 (ia_al 128 0) := sa_n (snd_aload_n dX0_area_127 rfl rfl) on_al
theorem s_43_128 : S43 128 (ia_gfR 131 1 14) := sa_n (snd_gfR ci_1 (k := 14) (lt_c rfl) dX0_area_128 (Or.inl q896) (Or.inl rfl) (fun _ _ _ _ => rfl) rfl rfl) on_gfR
theorem s_43_131 : S43 131 (ia_al 132 0) := sa_n (snd_aload_n dX0_area_131 rfl rfl) on_al
theorem s_43_132 : S43 132 (ia_gfR 135 1 2) := sa_n (snd_gfR ci_1 (k := 2) (lt_c rfl) dX0_area_132 (Or.inl q876) (Or.inl rfl) (fun _ _ _ _ => rfl) rfl rfl) on_gfR
theorem s_43_135 : S43 135 (ia_call 138 2 2 79 2) := sk_V me_79 q1055 dX0_area_135 rfl
theorem s_43_138 : S43 138 (ia_al 139 0) := sa_n (snd_aload_n dX0_area_138 rfl rfl) on_al
theorem s_43_139 : S43 139 (ia_gfR 142 1 2) := sa_n (snd_gfR ci_1 (k := 2) (lt_c rfl) dX0_area_139 (Or.inl q876) (Or.inl rfl) (fun _ _ _ _ => rfl) rfl rfl) on_gfR
theorem s_43_142 : S43 142 (ia_al 143 0) := sa_n (snd_aload_n dX0_area_142 rfl rfl) on_al
theorem s_43_143 : S43 143 (ia_gfR 146 1 15) := sa_n (snd_gfR ci_1 (k := 15) (lt_c rfl) dX0_area_143 (Or.inl q897) (Or.inl rfl) (fun _ _ _ _ => rfl) rfl rfl) on_gfR
theorem s_43_146 : S43 146 (ia_al 147 0) := sa_n (snd_aload_n dX0_area_146 rfl rfl) on_al
theorem s_43_147 : S43 147 (ia_gfR 150 1 17) := sa_n (snd_gfR ci_1 (k := 17) (lt_c rfl) dX0_area_147 (Or.inl q899) (Or.inl rfl) (fun _ _ _ _ => rfl) rfl rfl) on_gfR
theorem s_43_150 : S43 150 (ia_call 153 3 2 77 7) := sk_V me_77 q1084 dX0_area_150 rfl
theorem s_43_153 : S43 153 (ia_al 154 0) := sa_n (snd_aload_n dX0_area_153 rfl rfl) on_al
theorem s_43_154 : S43 154 (ia_gfR 157 1 15) := sa_n (snd_gfR ci_1 (k := 15) (lt_c rfl) dX0_area_154 (Or.inl q897) (Or.inl rfl) (fun _ _ _ _ => rfl) rfl rfl) on_gfR
theorem s_43_157 : S43 157 (ia_al 158 0) := sa_n (snd_aload_n dX0_area_157 rfl rfl) on_al
theorem s_43_158 : S43 158 (ia_gfR 161 1 2) := sa_n (snd_gfR ci_1 (k := 2) (lt_c rfl) dX0_area_158 (Or.inl q876) (Or.inl rfl) (fun _ _ _ _ => rfl) rfl rfl) on_gfR
theorem s_43_161 : S43 161 (ia_call 164 2 2 79 2) := sk_V me_79 q1055 dX0_area_161 rfl
theorem s_43_164 : S43 164 (ia_al 165 0) := sa_n (snd_aload_n dX0_area_164 rfl rfl) on_al
theorem s_43_165 : S43 165 (ia_il 167 4) := sa_n (snd_iload dX0_area_165 rfl) on_il
theorem s_43_167 : S43 167 (ia_k 170 4000000) := sa_n (snd_ldcw dX0_area_167 q1117 (by decide) (okI_c rfl) rfl) on_k
theorem s_43_170 : S43 170 (ia_call 173 3 1 42 4) := sk_V me_42 q1109 dX0_area_170 rfl
theorem s_43_173 : S43 173 (ia_retI) := sa_t (st_retI dX0_area_173 rfl) on_retI
theorem sa_43_0 (pc : Nat) : S43 pc (cd_43_0 pc) := sa_c (sa_c (sa_c (sa_c (sa_c (sa_l s_43_0) (sa_l s_43_1)) (sa_c (sa_l s_43_2) (sa_c (sa_l s_43_3) (sa_l s_43_6)))) (sa_c (sa_c (sa_l s_43_9) (sa_c (sa_l s_43_10) (sa_l s_43_11))) (sa_c (sa_l s_43_12) (sa_c (sa_l s_43_15) (sa_l s_43_18))))) (sa_c (sa_c (sa_c (sa_l s_43_20) (sa_l s_43_21)) (sa_c (sa_l s_43_22) (sa_c (sa_l s_43_25) (sa_l s_43_28)))) (sa_c (sa_c (sa_l s_43_29) (sa_c (sa_l s_43_32) (sa_l s_43_35))) (sa_c (sa_l s_43_38) (sa_c (sa_l s_43_40) (sa_l s_43_41)))))) (sa_c (sa_c (sa_c (sa_c (sa_l s_43_42) (sa_l s_43_43)) (sa_c (sa_l s_43_46) (sa_c (sa_l s_43_47) (sa_l s_43_48)))) (sa_c (sa_c (sa_l s_43_49) (sa_c (sa_l s_43_51) (sa_l s_43_54))) (sa_c (sa_l s_43_57) (sa_c (sa_l s_43_59) (sa_l s_43_62))))) (sa_c (sa_c (sa_c (sa_l s_43_63) (sa_l s_43_66)) (sa_c (sa_l s_43_67) (sa_c (sa_l s_43_68) (sa_l s_43_69)))) (sa_c (sa_c (sa_l s_43_72) (sa_c (sa_l s_43_73) (sa_l s_43_76))) (sa_c (sa_l s_43_79) (sa_c (sa_l s_43_80) (sa_l s_43_83))))))
theorem sa_43_1 (pc : Nat) : S43 pc (cd_43_1 pc) := sa_c (sa_c (sa_c (sa_c (sa_c (sa_l s_43_84) (sa_l s_43_87)) (sa_c (sa_l s_43_90) (sa_c (sa_l s_43_91) (sa_l s_43_92)))) (sa_c (sa_c (sa_l s_43_93) (sa_l s_43_95)) (sa_c (sa_l s_43_98) (sa_c (sa_l s_43_101) (sa_l s_43_103))))) (sa_c (sa_c (sa_c (sa_l s_43_106) (sa_l s_43_107)) (sa_c (sa_l s_43_110) (sa_c (sa_l s_43_111) (sa_l s_43_112)))) (sa_c (sa_c (sa_l s_43_113) (sa_c (sa_l s_43_116) (sa_l s_43_117))) (sa_c (sa_l s_43_120) (sa_c (sa_l s_43_121) (sa_l s_43_124)))))) (sa_c (sa_c (sa_c (sa_c (sa_l s_43_127) (sa_l s_43_128)) (sa_c (sa_l s_43_131) (sa_c (sa_l s_43_132) (sa_l s_43_135)))) (sa_c (sa_c (sa_l s_43_138) (sa_c (sa_l s_43_139) (sa_l s_43_142))) (sa_c (sa_l s_43_143) (sa_c (sa_l s_43_146) (sa_l s_43_147))))) (sa_c (sa_c (sa_c (sa_l s_43_150) (sa_l s_43_153)) (sa_c (sa_l s_43_154) (sa_c (sa_l s_43_157) (sa_l s_43_158)))) (sa_c (sa_c (sa_l s_43_161) (sa_c (sa_l s_43_164) (sa_l s_43_165))) (sa_c (sa_l s_43_167) (sa_c (sa_l s_43_170) (sa_l s_43_173))))))
theorem sa_43 (pc : Nat) : S43 pc (cd_43 pc) := sa_c (sa_43_0 pc) (sa_43_1 pc)
abbrev S44 (pc : Nat) (x : XI) : Prop := SA "WeekFoot" cX0_would 6 "would" (some .int) pc x
theorem s_44_0 : S44 0 (ia_al 1 0) := sa_n (snd_aload_n dX0_would_0 rfl rfl) on_al
theorem s_44_1 : S44 1 (ia_il 2 1) := sa_n (snd_iload_n dX0_would_1 rfl rfl) on_il
theorem s_44_2 : S44 2 (ia_il 3 2) := sa_n (snd_iload_n dX0_would_2 rfl rfl) on_il
theorem s_44_3 : S44 3 (ia_call 6 3 1 39 3) := sk_V me_39 q1096 dX0_would_3 rfl
theorem s_44_6 : S44 6 (ia_if k0e 9 28) := sa_b (sndB_if_eq dX0_would_6 rfl rfl) on_if
theorem s_44_9 : S44 9 (ia_il 10 3) := sa_n (snd_iload_n dX0_would_9 rfl rfl) on_il
theorem s_44_10 : S44 10 (ia_il 12 4) := sa_n (snd_iload dX0_would_10 rfl) on_il
theorem s_44_12 : S44 12 (ia_stat 15 2 45 2) := sk_S me_45 q1122 dX0_would_12 rfl
theorem s_44_15 : S44 15 (ia_if k0e 18 28) := sa_b (sndB_if_eq dX0_would_15 rfl rfl) on_if
theorem s_44_18 : S44 18 (ia_al 19 0) := sa_n (snd_aload_n dX0_would_18 rfl rfl) on_al
theorem s_44_19 : S44 19 (ia_gfR 22 1 11) := sa_n (snd_gfR ci_1 (k := 11) (lt_c rfl) dX0_would_19 (Or.inl q892) (Or.inl rfl) (fun _ _ _ _ => rfl) rfl rfl) on_gfR
theorem s_44_22 : S44 22 (ia_call 25 1 4 88 1) := sk_V me_88 q971 dX0_would_22 rfl
theorem s_44_25 : S44 25 (ia_if k0n 28 31) := sa_b (sndB_if_ne dX0_would_25 rfl rfl) on_if
theorem s_44_28 : S44 28 (ia_k 30 (-2)) := sa_n (snd_bipush dX0_would_28 (by decide) (okI_c rfl) rfl) on_k
theorem s_44_30 : S44 30 (ia_retI) := sa_t (st_retI dX0_would_30 rfl) on_retI
theorem s_44_31 : S44 31 (ia_al 32 0) := sa_n (snd_aload_n dX0_would_31 rfl rfl) on_al
theorem s_44_32 : S44 32 (ia_gfR 35 1 13) := sa_n (snd_gfR ci_1 (k := 13) (lt_c rfl) dX0_would_32 (Or.inl q895) (Or.inl rfl) (fun _ _ _ _ => rfl) rfl rfl) on_gfR
theorem s_44_35 : S44 35 (ia_k 36 3) := sa_n (snd_iconst dX0_would_35 rfl (okI_c rfl) rfl) on_k
theorem s_44_36 : S44 36 (ia_il 37 3) := sa_n (snd_iload_n dX0_would_36 rfl rfl) on_il
theorem s_44_37 : S44 37 (ia_mul 38) := sa_n (snd_imul dX0_would_37 rfl) on_mul
theorem s_44_38 : S44 38 (ia_il 40 4) := sa_n (snd_iload dX0_would_38 rfl) on_il
theorem s_44_40 : S44 40 (ia_add 41) := sa_n (snd_iadd dX0_would_40 rfl) on_add
theorem s_44_41 : S44 41 (ia_ldR 42 107) := sa_n (snd_aaload (by decide) dX0_would_41 rfl) on_ldR
theorem s_44_42 : S44 42 (ia_as 44 5) := sa_n (snd_astore dX0_would_42 (lt_c rfl) rfl) on_as
theorem s_44_44 : S44 44 (ia_al 45 0) := sa_n (snd_aload_n dX0_would_44 rfl rfl) on_al
theorem s_44_45 : S44 45 (ia_al 47 5) := sa_n (snd_aload dX0_would_45 rfl) on_al
theorem s_44_47 : S44 47 (ia_il 48 1) := sa_n (snd_iload_n dX0_would_47 rfl rfl) on_il
theorem s_44_48 : S44 48 (ia_il 49 2) := sa_n (snd_iload_n dX0_would_48 rfl rfl) on_il
theorem s_44_49 : S44 49 (ia_call 52 4 1 46 7) := sk_V me_46 q1125 dX0_would_49 rfl
theorem s_44_52 : S44 52 (ia_if k0n 55 59) := sa_b (sndB_if_ne dX0_would_52 rfl rfl) on_if
theorem s_44_55 : S44 55 (ia_k 56 0) := sa_n (snd_iconst dX0_would_55 rfl (okI_c rfl) rfl) on_k
theorem s_44_56 : S44 56 (ia_go 75) := sa_n (snd_goto dX0_would_56 rfl) on_go
theorem s_44_59 : S44 59 (ia_al 60 0) := sa_n (snd_aload_n dX0_would_59 rfl rfl) on_al
theorem s_44_60 : S44 60 (ia_al 62 5) := sa_n (snd_aload dX0_would_60 rfl) on_al
theorem s_44_62 : S44 62 (ia_il 63 1) := sa_n (snd_iload_n dX0_would_62 rfl rfl) on_il
theorem s_44_63 : S44 63 (ia_il 64 2) := sa_n (snd_iload_n dX0_would_63 rfl rfl) on_il
theorem s_44_64 : S44 64 (ia_call 67 4 1 48 5) := sk_V me_48 q1135 dX0_would_64 rfl
theorem s_44_67 : S44 67 (ia_if k0e 70 74) := sa_b (sndB_if_eq dX0_would_67 rfl rfl) on_if
theorem s_44_70 : S44 70 (ia_k 71 1) := sa_n (snd_iconst dX0_would_70 rfl (okI_c rfl) rfl) on_k
theorem s_44_71 : S44 71 (ia_go 75) := sa_n (snd_goto dX0_would_71 rfl) on_go
theorem s_44_74 : S44 74 (ia_k 75 2) := sa_n (snd_iconst dX0_would_74 rfl (okI_c rfl) rfl) on_k
theorem s_44_75 : S44 75 (ia_retI) := sa_t (st_retI dX0_would_75 rfl) on_retI
theorem sa_44 (pc : Nat) : S44 pc (cd_44 pc) := sa_c (sa_c (sa_c (sa_c (sa_c (sa_l s_44_0) (sa_l s_44_1)) (sa_c (sa_l s_44_2) (sa_c (sa_l s_44_3) (sa_l s_44_6)))) (sa_c (sa_c (sa_l s_44_9) (sa_l s_44_10)) (sa_c (sa_l s_44_12) (sa_c (sa_l s_44_15) (sa_l s_44_18))))) (sa_c (sa_c (sa_c (sa_l s_44_19) (sa_l s_44_22)) (sa_c (sa_l s_44_25) (sa_c (sa_l s_44_28) (sa_l s_44_30)))) (sa_c (sa_c (sa_l s_44_31) (sa_c (sa_l s_44_32) (sa_l s_44_35))) (sa_c (sa_l s_44_36) (sa_c (sa_l s_44_37) (sa_l s_44_38)))))) (sa_c (sa_c (sa_c (sa_c (sa_l s_44_40) (sa_l s_44_41)) (sa_c (sa_l s_44_42) (sa_c (sa_l s_44_44) (sa_l s_44_45)))) (sa_c (sa_c (sa_l s_44_47) (sa_l s_44_48)) (sa_c (sa_l s_44_49) (sa_c (sa_l s_44_52) (sa_l s_44_55))))) (sa_c (sa_c (sa_c (sa_l s_44_56) (sa_l s_44_59)) (sa_c (sa_l s_44_60) (sa_c (sa_l s_44_62) (sa_l s_44_63)))) (sa_c (sa_c (sa_l s_44_64) (sa_c (sa_l s_44_67) (sa_l s_44_70))) (sa_c (sa_l s_44_71) (sa_c (sa_l s_44_74) (sa_l s_44_75))))))
abbrev S45 (pc : Nat) (x : XI) : Prop := SA "WeekFoot" cX0_isNumber 2 "isNumber" (some .boolean) pc x
theorem s_45_0 : S45 0 (ia_il 1 0) := sa_n (snd_iload_n dX0_isNumber_0 rfl rfl) on_il
theorem s_45_1 : S45 1 (ia_k 2 1) := sa_n (snd_iconst dX0_isNumber_1 rfl (okI_c rfl) rfl) on_k
theorem s_45_2 : S45 2 (ia_k 4 99) := sa_n (snd_bipush dX0_isNumber_2 (by decide) (okI_c rfl) rfl) on_k
theorem s_45_4 : S45 4 (ia_stat 7 3 2 3) := sk_S me_2 q138 dX0_isNumber_4 rfl
theorem s_45_7 : S45 7 (ia_if k0e 10 23) := sa_b (sndB_if_eq dX0_isNumber_7 rfl rfl) on_if
theorem s_45_10 : S45 10 (ia_il 11 1) := sa_n (snd_iload_n dX0_isNumber_10 rfl rfl) on_il
theorem s_45_11 : S45 11 (ia_k 12 0) := sa_n (snd_iconst dX0_isNumber_11 rfl (okI_c rfl) rfl) on_k
theorem s_45_12 : S45 12 (ia_k 13 2) := sa_n (snd_iconst dX0_isNumber_12 rfl (okI_c rfl) rfl) on_k
theorem s_45_13 : S45 13 (ia_stat 16 3 2 3) := sk_S me_2 q138 dX0_isNumber_13 rfl
theorem s_45_16 : S45 16 (ia_if k0e 19 23) := sa_b (sndB_if_eq dX0_isNumber_16 rfl rfl) on_if
theorem s_45_19 : S45 19 (ia_k 20 1) := sa_n (snd_iconst dX0_isNumber_19 rfl (okI_c rfl) rfl) on_k
theorem s_45_20 : S45 20 (ia_go 24) := sa_n (snd_goto dX0_isNumber_20 rfl) on_go
theorem s_45_23 : S45 23 (ia_k 24 0) := sa_n (snd_iconst dX0_isNumber_23 rfl (okI_c rfl) rfl) on_k
theorem s_45_24 : S45 24 (ia_retZ) := sa_t (st_retZ dX0_isNumber_24 rfl) on_retZ
theorem sa_45 (pc : Nat) : S45 pc (cd_45 pc) := sa_c (sa_c (sa_c (sa_l s_45_0) (sa_c (sa_l s_45_1) (sa_l s_45_2))) (sa_c (sa_c (sa_l s_45_4) (sa_l s_45_7)) (sa_c (sa_l s_45_10) (sa_l s_45_11)))) (sa_c (sa_c (sa_l s_45_12) (sa_c (sa_l s_45_13) (sa_l s_45_16))) (sa_c (sa_c (sa_l s_45_19) (sa_l s_45_20)) (sa_c (sa_l s_45_23) (sa_l s_45_24))))
abbrev S46 (pc : Nat) (x : XI) : Prop := SA "WeekFoot" cX0_could 7 "could" (some .boolean) pc x
theorem s_46_0 : S46 0 (ia_al 1 0) := sa_n (snd_aload_n dX0_could_0 rfl rfl) on_al
theorem s_46_1 : S46 1 (ia_al 2 1) := sa_n (snd_aload_n dX0_could_1 rfl rfl) on_al
theorem s_46_2 : S46 2 (ia_call 5 1 7 107 1) := sk_V me_107 q1129 dX0_could_2 rfl
theorem s_46_5 : S46 5 (ia_il 6 2) := sa_n (snd_iload_n dX0_could_5 rfl rfl) on_il
theorem s_46_6 : S46 6 (ia_il 7 3) := sa_n (snd_iload_n dX0_could_6 rfl rfl) on_il
theorem s_46_7 : S46 7 (ia_k 8 1) := sa_n (snd_iconst dX0_could_7 rfl (okI_c rfl) rfl) on_k
theorem s_46_8 : S46 8 (ia_call 11 5 1 47 5) := sk_V me_47 q1130 dX0_could_8 rfl
theorem s_46_11 : S46 11 (ia_is 13 4) := sa_n (snd_istore dX0_could_11 (lt_c rfl) rfl) on_is
theorem s_46_13 : S46 13 (ia_al 14 0) := sa_n (snd_aload_n dX0_could_13 rfl rfl) on_al
theorem s_46_14 : S46 14 (ia_gfI 17 1 18) := sa_n (snd_gfI ci_1 (k := 18) (lt_c rfl) dX0_could_14 (Or.inl q900) (Or.inl rfl) (fun _ _ _ _ => rfl) rfl rfl) on_gfI
theorem s_46_17 : S46 17 (ia_is 19 5) := sa_n (snd_istore dX0_could_17 (lt_c rfl) rfl) on_is
theorem s_46_19 : S46 19 (ia_il 21 4) := sa_n (snd_iload dX0_could_19 rfl) on_il
theorem s_46_21 : S46 21 (ia_if k0G 24 34) := sa_b (sndB_if_gt dX0_could_21 rfl rfl) on_if
theorem s_46_24 : S46 24 (ia_il 26 4) := sa_n (snd_iload dX0_could_24 rfl) on_il
theorem s_46_26 : S46 26 (ia_if k0n 29 36) := sa_b (sndB_if_ne dX0_could_26 rfl rfl) on_if
theorem s_46_29 : S46 29 (ia_il 31 5) := sa_n (snd_iload dX0_could_29 rfl) on_il
theorem s_46_31 : S46 31 (ia_if k0e 34 36) := sa_b (sndB_if_eq dX0_could_31 rfl rfl) on_if
theorem s_46_34 : S46 34 (ia_k 35 0) := sa_n (snd_iconst dX0_could_34 rfl (okI_c rfl) rfl) on_k
theorem s_46_35 : S46 35 (ia_retZ) := sa_t (st_retZ dX0_could_35 rfl) on_retZ
theorem s_46_36 : S46 36 (ia_al 37 0) := sa_n (snd_aload_n dX0_could_36 rfl rfl) on_al
theorem s_46_37 : S46 37 (ia_al 38 1) := sa_n (snd_aload_n dX0_could_37 rfl rfl) on_al
theorem s_46_38 : S46 38 (ia_call 41 1 7 108 1) := sk_V me_108 q1134 dX0_could_38 rfl
theorem s_46_41 : S46 41 (ia_il 42 2) := sa_n (snd_iload_n dX0_could_41 rfl rfl) on_il
theorem s_46_42 : S46 42 (ia_il 43 3) := sa_n (snd_iload_n dX0_could_42 rfl rfl) on_il
theorem s_46_43 : S46 43 (ia_k 44 0) := sa_n (snd_iconst dX0_could_43 rfl (okI_c rfl) rfl) on_k
theorem s_46_44 : S46 44 (ia_call 47 5 1 47 5) := sk_V me_47 q1130 dX0_could_44 rfl
theorem s_46_47 : S46 47 (ia_is 49 6) := sa_n (snd_istore dX0_could_47 (lt_c rfl) rfl) on_is
theorem s_46_49 : S46 49 (ia_il 51 6) := sa_n (snd_iload dX0_could_49 rfl) on_il
theorem s_46_51 : S46 51 (ia_if k0G 54 73) := sa_b (sndB_if_gt dX0_could_51 rfl rfl) on_if
theorem s_46_54 : S46 54 (ia_il 56 6) := sa_n (snd_iload dX0_could_54 rfl) on_il
theorem s_46_56 : S46 56 (ia_if k0n 59 77) := sa_b (sndB_if_ne dX0_could_56 rfl rfl) on_if
theorem s_46_59 : S46 59 (ia_al 60 1) := sa_n (snd_aload_n dX0_could_59 rfl rfl) on_al
theorem s_46_60 : S46 60 (ia_gfI 63 7 3) := sa_n (snd_gfI ci_7 (k := 3) (lt_c rfl) dX0_could_60 (Or.inr ⟨_, q376⟩) (Or.inl rfl) (fun _ _ _ _ => rfl) rfl rfl) on_gfI
theorem s_46_63 : S46 63 (ia_if k0n 66 77) := sa_b (sndB_if_ne dX0_could_63 rfl rfl) on_if
theorem s_46_66 : S46 66 (ia_al 67 0) := sa_n (snd_aload_n dX0_could_66 rfl rfl) on_al
theorem s_46_67 : S46 67 (ia_gfI 70 1 18) := sa_n (snd_gfI ci_1 (k := 18) (lt_c rfl) dX0_could_67 (Or.inl q900) (Or.inl rfl) (fun _ _ _ _ => rfl) rfl rfl) on_gfI
theorem s_46_70 : S46 70 (ia_if k0n 73 77) := sa_b (sndB_if_ne dX0_could_70 rfl rfl) on_if
theorem s_46_73 : S46 73 (ia_k 74 1) := sa_n (snd_iconst dX0_could_73 rfl (okI_c rfl) rfl) on_k
theorem s_46_74 : S46 74 (ia_go 78) := sa_n (snd_goto dX0_could_74 rfl) on_go
theorem s_46_77 : S46 77 (ia_k 78 0) := sa_n (snd_iconst dX0_could_77 rfl (okI_c rfl) rfl) on_k
theorem s_46_78 : S46 78 (ia_retZ) := sa_t (st_retZ dX0_could_78 rfl) on_retZ
theorem sa_46 (pc : Nat) : S46 pc (cd_46 pc) := sa_c (sa_c (sa_c (sa_c (sa_c (sa_l s_46_0) (sa_l s_46_1)) (sa_c (sa_l s_46_2) (sa_c (sa_l s_46_5) (sa_l s_46_6)))) (sa_c (sa_c (sa_l s_46_7) (sa_l s_46_8)) (sa_c (sa_l s_46_11) (sa_c (sa_l s_46_13) (sa_l s_46_14))))) (sa_c (sa_c (sa_c (sa_l s_46_17) (sa_l s_46_19)) (sa_c (sa_l s_46_21) (sa_c (sa_l s_46_24) (sa_l s_46_26)))) (sa_c (sa_c (sa_l s_46_29) (sa_l s_46_31)) (sa_c (sa_l s_46_34) (sa_c (sa_l s_46_35) (sa_l s_46_36)))))) (sa_c (sa_c (sa_c (sa_c (sa_l s_46_37) (sa_l s_46_38)) (sa_c (sa_l s_46_41) (sa_c (sa_l s_46_42) (sa_l s_46_43)))) (sa_c (sa_c (sa_l s_46_44) (sa_l s_46_47)) (sa_c (sa_l s_46_49) (sa_c (sa_l s_46_51) (sa_l s_46_54))))) (sa_c (sa_c (sa_c (sa_l s_46_56) (sa_l s_46_59)) (sa_c (sa_l s_46_60) (sa_c (sa_l s_46_63) (sa_l s_46_66)))) (sa_c (sa_c (sa_l s_46_67) (sa_c (sa_l s_46_70) (sa_l s_46_73))) (sa_c (sa_l s_46_74) (sa_c (sa_l s_46_77) (sa_l s_46_78))))))
abbrev S47 (pc : Nat) (x : XI) : Prop := SA "WeekFoot" cX0_against 5 "against" (some .int) pc x
theorem s_47_0 : S47 0 (ia_al 1 0) := sa_n (snd_aload_n dX0_against_0 rfl rfl) on_al
theorem s_47_1 : S47 1 (ia_k 2 0) := sa_n (snd_iconst dX0_against_1 rfl (okI_c rfl) rfl) on_k
theorem s_47_2 : S47 2 (ia_pfZ 5 1 18) := sa_n (snd_pfZ ci_1 (k := 18) (lt_c rfl) dX0_against_2 q900 (Or.inl rfl) (Or.inl rfl) (rfl) rfl rfl) on_pfZ
theorem s_47_5 : S47 5 (ia_al 6 0) := sa_n (snd_aload_n dX0_against_5 rfl rfl) on_al
theorem s_47_6 : S47 6 (ia_il 7 2) := sa_n (snd_iload_n dX0_against_6 rfl rfl) on_il
theorem s_47_7 : S47 7 (ia_il 8 3) := sa_n (snd_iload_n dX0_against_7 rfl rfl) on_il
theorem s_47_8 : S47 8 (ia_il 10 4) := sa_n (snd_iload dX0_against_8 rfl) on_il
theorem s_47_10 : S47 10 (ia_call 13 4 1 40 6) := sk_V me_40 q1101 dX0_against_10 rfl
theorem s_47_13 : S47 13 (ia_if k0n 16 27) := sa_b (sndB_if_ne dX0_against_13 rfl rfl) on_if
theorem s_47_16 : S47 16 (ia_il 18 4) := sa_n (snd_iload dX0_against_16 rfl) on_il
theorem s_47_18 : S47 18 (ia_if k0n 21 25) := sa_b (sndB_if_ne dX0_against_18 rfl rfl) on_if
theorem s_47_21 : S47 21 (ia_k 22 1) := sa_n (snd_iconst dX0_against_21 rfl (okI_c rfl) rfl) on_k
theorem s_47_22 : S47 22 (ia_go 26) := sa_n (snd_goto dX0_against_22 rfl) on_go
theorem s_47_25 : S47 25 (ia_k 26 (-1)) := sa_n (snd_iconst dX0_against_25 rfl (okI_c rfl) rfl) on_k
theorem s_47_26 : S47 26 (ia_retI) := sa_t (st_retI dX0_against_26 rfl) on_retI
theorem s_47_27 : S47 27 (ia_al 28 0) := sa_n (snd_aload_n dX0_against_27 rfl rfl) on_al
theorem s_47_28 : S47 28 (ia_gfR 31 1 2) := sa_n (snd_gfR ci_1 (k := 2) (lt_c rfl) dX0_against_28 (Or.inl q876) (Or.inl rfl) (fun _ _ _ _ => rfl) rfl rfl) on_gfR
theorem s_47_31 : S47 31 (ia_al 32 0) := sa_n (snd_aload_n dX0_against_31 rfl rfl) on_al
theorem s_47_32 : S47 32 (ia_gfR 35 1 17) := sa_n (snd_gfR ci_1 (k := 17) (lt_c rfl) dX0_against_32 (Or.inl q899) (Or.inl rfl) (fun _ _ _ _ => rfl) rfl rfl) on_gfR
theorem s_47_35 : S47 35 (ia_call 38 2 2 79 2) := sk_V me_79 q1055 dX0_against_35 rfl
theorem s_47_38 : S47 38 (ia_al 39 0) := sa_n (snd_aload_n dX0_against_38 rfl rfl) on_al
theorem s_47_39 : S47 39 (ia_gfR 42 1 2) := sa_n (snd_gfR ci_1 (k := 2) (lt_c rfl) dX0_against_39 (Or.inl q876) (Or.inl rfl) (fun _ _ _ _ => rfl) rfl rfl) on_gfR
theorem s_47_42 : S47 42 (ia_il 43 1) := sa_n (snd_iload_n dX0_against_42 rfl rfl) on_il
theorem s_47_43 : S47 43 (ia_call 46 2 2 80 5) := sk_V me_80 q1056 dX0_against_43 rfl
theorem s_47_46 : S47 46 (ia_al 47 0) := sa_n (snd_aload_n dX0_against_46 rfl rfl) on_al
theorem s_47_47 : S47 47 (ia_gfR 50 1 3) := sa_n (snd_gfR ci_1 (k := 3) (lt_c rfl) dX0_against_47 (Or.inl q878) (Or.inl rfl) (fun _ _ _ _ => rfl) rfl rfl) on_gfR
theorem s_47_50 : S47 50 (ia_al 51 0) := sa_n (snd_aload_n dX0_against_50 rfl rfl) on_al
theorem s_47_51 : S47 51 (ia_gfR 54 1 16) := sa_n (snd_gfR ci_1 (k := 16) (lt_c rfl) dX0_against_51 (Or.inl q898) (Or.inl rfl) (fun _ _ _ _ => rfl) rfl rfl) on_gfR
theorem s_47_54 : S47 54 (ia_call 57 2 2 79 2) := sk_V me_79 q1055 dX0_against_54 rfl
theorem s_47_57 : S47 57 (ia_al 58 0) := sa_n (snd_aload_n dX0_against_57 rfl rfl) on_al
theorem s_47_58 : S47 58 (ia_gfR 61 1 3) := sa_n (snd_gfR ci_1 (k := 3) (lt_c rfl) dX0_against_58 (Or.inl q878) (Or.inl rfl) (fun _ _ _ _ => rfl) rfl rfl) on_gfR
theorem s_47_61 : S47 61 (ia_k 62 2) := sa_n (snd_iconst dX0_against_61 rfl (okI_c rfl) rfl) on_k
theorem s_47_62 : S47 62 (ia_call 65 2 2 80 5) := sk_V me_80 q1056 dX0_against_62 rfl
theorem s_47_65 : S47 65 (ia_al 66 0) := sa_n (snd_aload_n dX0_against_65 rfl rfl) on_al
theorem s_47_66 : S47 66 (ia_gfR 69 1 2) := sa_n (snd_gfR ci_1 (k := 2) (lt_c rfl) dX0_against_66 (Or.inl q876) (Or.inl rfl) (fun _ _ _ _ => rfl) rfl rfl) on_gfR
theorem s_47_69 : S47 69 (ia_al 70 0) := sa_n (snd_aload_n dX0_against_69 rfl rfl) on_al
theorem s_47_70 : S47 70 (ia_gfR 73 1 3) := sa_n (snd_gfR ci_1 (k := 3) (lt_c rfl) dX0_against_70 (Or.inl q878) (Or.inl rfl) (fun _ _ _ _ => rfl) rfl rfl) on_gfR
theorem s_47_73 : S47 73 (ia_call 76 2 2 78 3) := sk_V me_78 q1061 dX0_against_73 rfl
theorem s_47_76 : S47 76 (ia_retI) := sa_t (st_retI dX0_against_76 rfl) on_retI
theorem sa_47 (pc : Nat) : S47 pc (cd_47 pc) := sa_c (sa_c (sa_c (sa_c (sa_c (sa_l s_47_0) (sa_l s_47_1)) (sa_c (sa_l s_47_2) (sa_l s_47_5))) (sa_c (sa_c (sa_l s_47_6) (sa_l s_47_7)) (sa_c (sa_l s_47_8) (sa_c (sa_l s_47_10) (sa_l s_47_13))))) (sa_c (sa_c (sa_c (sa_l s_47_16) (sa_l s_47_18)) (sa_c (sa_l s_47_21) (sa_c (sa_l s_47_22) (sa_l s_47_25)))) (sa_c (sa_c (sa_l s_47_26) (sa_l s_47_27)) (sa_c (sa_l s_47_28) (sa_c (sa_l s_47_31) (sa_l s_47_32)))))) (sa_c (sa_c (sa_c (sa_c (sa_l s_47_35) (sa_l s_47_38)) (sa_c (sa_l s_47_39) (sa_c (sa_l s_47_42) (sa_l s_47_43)))) (sa_c (sa_c (sa_l s_47_46) (sa_l s_47_47)) (sa_c (sa_l s_47_50) (sa_c (sa_l s_47_51) (sa_l s_47_54))))) (sa_c (sa_c (sa_c (sa_l s_47_57) (sa_l s_47_58)) (sa_c (sa_l s_47_61) (sa_c (sa_l s_47_62) (sa_l s_47_65)))) (sa_c (sa_c (sa_l s_47_66) (sa_l s_47_69)) (sa_c (sa_l s_47_70) (sa_c (sa_l s_47_73) (sa_l s_47_76))))))
abbrev S48 (pc : Nat) (x : XI) : Prop := SA "WeekFoot" cX0_must 5 "must" (some .boolean) pc x
theorem s_48_0 : S48 0 (ia_al 1 0) := sa_n (snd_aload_n dX0_must_0 rfl rfl) on_al
theorem s_48_1 : S48 1 (ia_gfR 4 1 11) := sa_n (snd_gfR ci_1 (k := 11) (lt_c rfl) dX0_must_1 (Or.inl q892) (Or.inl rfl) (fun _ _ _ _ => rfl) rfl rfl) on_gfR
theorem s_48_4 : S48 4 (ia_gfR 7 4 4) := sa_n (snd_gfR ci_4 (k := 4) (lt_c rfl) dX0_must_4 (Or.inr ⟨_, q787⟩) (Or.inl rfl) (fun _ _ _ _ => rfl) rfl rfl) on_gfR
theorem s_48_7 : S48 7 (ia_k 9 16) := sa_n (snd_bipush dX0_must_7 (by decide) (okI_c rfl) rfl) on_k
theorem s_48_9 : S48 9 (ia_il 10 2) := sa_n (snd_iload_n dX0_must_9 rfl rfl) on_il
theorem s_48_10 : S48 10 (ia_mul 11) := sa_n (snd_imul dX0_must_10 rfl) on_mul
theorem s_48_11 : S48 11 (ia_k 13 12) := sa_n (snd_bipush dX0_must_11 (by decide) (okI_c rfl) rfl) on_k
theorem s_48_13 : S48 13 (ia_add 14) := sa_n (snd_iadd dX0_must_13 rfl) on_add
theorem s_48_14 : S48 14 (ia_il 15 3) := sa_n (snd_iload_n dX0_must_14 rfl rfl) on_il
theorem s_48_15 : S48 15 (ia_add 16) := sa_n (snd_iadd dX0_must_15 rfl) on_add
theorem s_48_16 : S48 16 (ia_ldI 17 101) := sa_n (snd_zaload dX0_must_16 rfl) on_ldI
theorem s_48_17 : S48 17 (ia_if k0e 20 40) := sa_b (sndB_if_eq dX0_must_17 rfl rfl) on_if
theorem s_48_20 : S48 20 (ia_al 21 0) := sa_n (snd_aload_n dX0_must_20 rfl rfl) on_al
theorem s_48_21 : S48 21 (ia_gfR 24 1 11) := sa_n (snd_gfR ci_1 (k := 11) (lt_c rfl) dX0_must_21 (Or.inl q892) (Or.inl rfl) (fun _ _ _ _ => rfl) rfl rfl) on_gfR
theorem s_48_24 : S48 24 (ia_gfR 27 4 4) := sa_n (snd_gfR ci_4 (k := 4) (lt_c rfl) dX0_must_24 (Or.inr ⟨_, q787⟩) (Or.inl rfl) (fun _ _ _ _ => rfl) rfl rfl) on_gfR
theorem s_48_27 : S48 27 (ia_k 29 16) := sa_n (snd_bipush dX0_must_27 (by decide) (okI_c rfl) rfl) on_k
theorem s_48_29 : S48 29 (ia_k 31 12) := sa_n (snd_bipush dX0_must_29 (by decide) (okI_c rfl) rfl) on_k
theorem s_48_31 : S48 31 (ia_il 32 3) := sa_n (snd_iload_n dX0_must_31 rfl rfl) on_il
theorem s_48_32 : S48 32 (ia_add 33) := sa_n (snd_iadd dX0_must_32 rfl) on_add
theorem s_48_33 : S48 33 (ia_mul 34) := sa_n (snd_imul dX0_must_33 rfl) on_mul
theorem s_48_34 : S48 34 (ia_il 35 2) := sa_n (snd_iload_n dX0_must_34 rfl rfl) on_il
theorem s_48_35 : S48 35 (ia_add 36) := sa_n (snd_iadd dX0_must_35 rfl) on_add
theorem s_48_36 : S48 36 (ia_ldI 37 101) := sa_n (snd_zaload dX0_must_36 rfl) on_ldI
theorem s_48_37 : S48 37 (ia_if k0n 40 42) := sa_b (sndB_if_ne dX0_must_37 rfl rfl) on_if
theorem s_48_40 : S48 40 (ia_k 41 0) := sa_n (snd_iconst dX0_must_40 rfl (okI_c rfl) rfl) on_k
theorem s_48_41 : S48 41 (ia_retZ) := sa_t (st_retZ dX0_must_41 rfl) on_retZ
theorem s_48_42 : S48 42 (ia_al 43 0) := sa_n (snd_aload_n dX0_must_42 rfl rfl) on_al
theorem s_48_43 : S48 43 (ia_al 44 1) := sa_n (snd_aload_n dX0_must_43 rfl rfl) on_al
theorem s_48_44 : S48 44 (ia_call 47 1 7 107 1) := sk_V me_107 q1129 dX0_must_44 rfl
theorem s_48_47 : S48 47 (ia_il 48 2) := sa_n (snd_iload_n dX0_must_47 rfl rfl) on_il
theorem s_48_48 : S48 48 (ia_il 49 3) := sa_n (snd_iload_n dX0_must_48 rfl rfl) on_il
theorem s_48_49 : S48 49 (ia_k 50 0) := sa_n (snd_iconst dX0_must_49 rfl (okI_c rfl) rfl) on_k
theorem s_48_50 : S48 50 (ia_call 53 5 1 47 5) := sk_V me_47 q1130 dX0_must_50 rfl
theorem s_48_53 : S48 53 (ia_if k0L 56 58) := sa_b (sndB_if_le dX0_must_53 rfl rfl) on_if
theorem s_48_56 : S48 56 (ia_k 57 0) := sa_n (snd_iconst dX0_must_56 rfl (okI_c rfl) rfl) on_k
theorem s_48_57 : S48 57 (ia_retZ) := sa_t (st_retZ dX0_must_57 rfl) on_retZ
theorem s_48_58 : S48 58 (ia_al 59 0) := sa_n (snd_aload_n dX0_must_58 rfl rfl) on_al
theorem s_48_59 : S48 59 (ia_al 60 1) := sa_n (snd_aload_n dX0_must_59 rfl rfl) on_al
theorem s_48_60 : S48 60 (ia_call 63 1 7 108 1) := sk_V me_108 q1134 dX0_must_60 rfl
theorem s_48_63 : S48 63 (ia_il 64 2) := sa_n (snd_iload_n dX0_must_63 rfl rfl) on_il
theorem s_48_64 : S48 64 (ia_il 65 3) := sa_n (snd_iload_n dX0_must_64 rfl rfl) on_il
theorem s_48_65 : S48 65 (ia_k 66 1) := sa_n (snd_iconst dX0_must_65 rfl (okI_c rfl) rfl) on_k
theorem s_48_66 : S48 66 (ia_call 69 5 1 47 5) := sk_V me_47 q1130 dX0_must_66 rfl
theorem s_48_69 : S48 69 (ia_is 71 4) := sa_n (snd_istore dX0_must_69 (lt_c rfl) rfl) on_is
theorem s_48_71 : S48 71 (ia_il 73 4) := sa_n (snd_iload dX0_must_71 rfl) on_il
theorem s_48_73 : S48 73 (ia_if k0G 76 95) := sa_b (sndB_if_gt dX0_must_73 rfl rfl) on_if
theorem s_48_76 : S48 76 (ia_il 78 4) := sa_n (snd_iload dX0_must_76 rfl) on_il
theorem s_48_78 : S48 78 (ia_if k0n 81 99) := sa_b (sndB_if_ne dX0_must_78 rfl rfl) on_if
theorem s_48_81 : S48 81 (ia_al 82 1) := sa_n (snd_aload_n dX0_must_81 rfl rfl) on_al
theorem s_48_82 : S48 82 (ia_gfI 85 7 3) := sa_n (snd_gfI ci_7 (k := 3) (lt_c rfl) dX0_must_82 (Or.inr ⟨_, q376⟩) (Or.inl rfl) (fun _ _ _ _ => rfl) rfl rfl) on_gfI
theorem s_48_85 : S48 85 (ia_if k0e 88 95) := sa_b (sndB_if_eq dX0_must_85 rfl rfl) on_if
theorem s_48_88 : S48 88 (ia_al 89 0) := sa_n (snd_aload_n dX0_must_88 rfl rfl) on_al
theorem s_48_89 : S48 89 (ia_gfI 92 1 18) := sa_n (snd_gfI ci_1 (k := 18) (lt_c rfl) dX0_must_89 (Or.inl q900) (Or.inl rfl) (fun _ _ _ _ => rfl) rfl rfl) on_gfI
theorem s_48_92 : S48 92 (ia_if k0e 95 99) := sa_b (sndB_if_eq dX0_must_92 rfl rfl) on_if
theorem s_48_95 : S48 95 (ia_k 96 1) := sa_n (snd_iconst dX0_must_95 rfl (okI_c rfl) rfl) on_k
theorem s_48_96 : S48 96 (ia_go 100) := sa_n (snd_goto dX0_must_96 rfl) on_go
theorem s_48_99 : S48 99 (ia_k 100 0) := sa_n (snd_iconst dX0_must_99 rfl (okI_c rfl) rfl) on_k
theorem s_48_100 : S48 100 (ia_retZ) := sa_t (st_retZ dX0_must_100 rfl) on_retZ
theorem sa_48 (pc : Nat) : S48 pc (cd_48 pc) := sa_c (sa_c (sa_c (sa_c (sa_c (sa_l s_48_0) (sa_c (sa_l s_48_1) (sa_l s_48_4))) (sa_c (sa_c (sa_l s_48_7) (sa_l s_48_9)) (sa_c (sa_l s_48_10) (sa_l s_48_11)))) (sa_c (sa_c (sa_l s_48_13) (sa_c (sa_l s_48_14) (sa_l s_48_15))) (sa_c (sa_c (sa_l s_48_16) (sa_l s_48_17)) (sa_c (sa_l s_48_20) (sa_l s_48_21))))) (sa_c (sa_c (sa_c (sa_l s_48_24) (sa_c (sa_l s_48_27) (sa_l s_48_29))) (sa_c (sa_c (sa_l s_48_31) (sa_l s_48_32)) (sa_c (sa_l s_48_33) (sa_l s_48_34)))) (sa_c (sa_c (sa_c (sa_l s_48_35) (sa_l s_48_36)) (sa_c (sa_l s_48_37) (sa_l s_48_40))) (sa_c (sa_c (sa_l s_48_41) (sa_l s_48_42)) (sa_c (sa_l s_48_43) (sa_l s_48_44)))))) (sa_c (sa_c (sa_c (sa_c (sa_l s_48_47) (sa_c (sa_l s_48_48) (sa_l s_48_49))) (sa_c (sa_c (sa_l s_48_50) (sa_l s_48_53)) (sa_c (sa_l s_48_56) (sa_l s_48_57)))) (sa_c (sa_c (sa_l s_48_58) (sa_c (sa_l s_48_59) (sa_l s_48_60))) (sa_c (sa_c (sa_l s_48_63) (sa_l s_48_64)) (sa_c (sa_l s_48_65) (sa_l s_48_66))))) (sa_c (sa_c (sa_c (sa_l s_48_69) (sa_c (sa_l s_48_71) (sa_l s_48_73))) (sa_c (sa_c (sa_l s_48_76) (sa_l s_48_78)) (sa_c (sa_l s_48_81) (sa_l s_48_82)))) (sa_c (sa_c (sa_c (sa_l s_48_85) (sa_l s_48_88)) (sa_c (sa_l s_48_89) (sa_l s_48_92))) (sa_c (sa_c (sa_l s_48_95) (sa_l s_48_96)) (sa_c (sa_l s_48_99) (sa_l s_48_100))))))
abbrev S49 (pc : Nat) (x : XI) : Prop := SA "WeekFoot" cX0_numbers 6 "numbers" (some .int) pc x
theorem s_49_0 : S49 0 (ia_al 1 0) := sa_n (snd_aload_n dX0_numbers_0 rfl rfl) on_al
theorem s_49_1 : S49 1 (ia_il 2 1) := sa_n (snd_iload_n dX0_numbers_1 rfl rfl) on_il
theorem s_49_2 : S49 2 (ia_il 3 2) := sa_n (snd_iload_n dX0_numbers_2 rfl rfl) on_il
theorem s_49_3 : S49 3 (ia_call 6 3 1 39 3) := sk_V me_39 q1096 dX0_numbers_3 rfl
theorem s_49_6 : S49 6 (ia_if k0e 9 38) := sa_b (sndB_if_eq dX0_numbers_6 rfl rfl) on_if
theorem s_49_9 : S49 9 (ia_il 10 3) := sa_n (snd_iload_n dX0_numbers_9 rfl rfl) on_il
theorem s_49_10 : S49 10 (ia_k 11 0) := sa_n (snd_iconst dX0_numbers_10 rfl (okI_c rfl) rfl) on_k
theorem s_49_11 : S49 11 (ia_k 12 2) := sa_n (snd_iconst dX0_numbers_11 rfl (okI_c rfl) rfl) on_k
theorem s_49_12 : S49 12 (ia_stat 15 3 2 3) := sk_S me_2 q138 dX0_numbers_12 rfl
theorem s_49_15 : S49 15 (ia_if k0e 18 38) := sa_b (sndB_if_eq dX0_numbers_15 rfl rfl) on_if
theorem s_49_18 : S49 18 (ia_il 20 4) := sa_n (snd_iload dX0_numbers_18 rfl) on_il
theorem s_49_20 : S49 20 (ia_k 21 0) := sa_n (snd_iconst dX0_numbers_20 rfl (okI_c rfl) rfl) on_k
theorem s_49_21 : S49 21 (ia_k 22 2) := sa_n (snd_iconst dX0_numbers_21 rfl (okI_c rfl) rfl) on_k
theorem s_49_22 : S49 22 (ia_stat 25 3 2 3) := sk_S me_2 q138 dX0_numbers_22 rfl
theorem s_49_25 : S49 25 (ia_if k0e 28 38) := sa_b (sndB_if_eq dX0_numbers_25 rfl rfl) on_if
theorem s_49_28 : S49 28 (ia_al 29 0) := sa_n (snd_aload_n dX0_numbers_28 rfl rfl) on_al
theorem s_49_29 : S49 29 (ia_gfR 32 1 11) := sa_n (snd_gfR ci_1 (k := 11) (lt_c rfl) dX0_numbers_29 (Or.inl q892) (Or.inl rfl) (fun _ _ _ _ => rfl) rfl rfl) on_gfR
theorem s_49_32 : S49 32 (ia_call 35 1 4 88 1) := sk_V me_88 q971 dX0_numbers_32 rfl
theorem s_49_35 : S49 35 (ia_if k0n 38 41) := sa_b (sndB_if_ne dX0_numbers_35 rfl rfl) on_if
theorem s_49_38 : S49 38 (ia_k 40 (-2)) := sa_n (snd_bipush dX0_numbers_38 (by decide) (okI_c rfl) rfl) on_k
theorem s_49_40 : S49 40 (ia_retI) := sa_t (st_retI dX0_numbers_40 rfl) on_retI
theorem s_49_41 : S49 41 (ia_al 42 0) := sa_n (snd_aload_n dX0_numbers_41 rfl rfl) on_al
theorem s_49_42 : S49 42 (ia_il 43 1) := sa_n (snd_iload_n dX0_numbers_42 rfl rfl) on_il
theorem s_49_43 : S49 43 (ia_il 44 2) := sa_n (snd_iload_n dX0_numbers_43 rfl rfl) on_il
theorem s_49_44 : S49 44 (ia_il 45 3) := sa_n (snd_iload_n dX0_numbers_44 rfl rfl) on_il
theorem s_49_45 : S49 45 (ia_call 48 4 1 50 6) := sk_V me_50 q1143 dX0_numbers_45 rfl
theorem s_49_48 : S49 48 (ia_is 50 5) := sa_n (snd_istore dX0_numbers_48 (lt_c rfl) rfl) on_is
theorem s_49_50 : S49 50 (ia_il 52 4) := sa_n (snd_iload dX0_numbers_50 rfl) on_il
theorem s_49_52 : S49 52 (ia_if k0n 55 60) := sa_b (sndB_if_ne dX0_numbers_52 rfl rfl) on_if
theorem s_49_55 : S49 55 (ia_il 57 5) := sa_n (snd_iload dX0_numbers_55 rfl) on_il
theorem s_49_57 : S49 57 (ia_go 77) := sa_n (snd_goto dX0_numbers_57 rfl) on_go
theorem s_49_60 : S49 60 (ia_il 62 4) := sa_n (snd_iload dX0_numbers_60 rfl) on_il
theorem s_49_62 : S49 62 (ia_k 63 1) := sa_n (snd_iconst dX0_numbers_62 rfl (okI_c rfl) rfl) on_k
theorem s_49_63 : S49 63 (ia_ic k2n 66 73) := sa_b (sndB_ic_ne dX0_numbers_63 rfl rfl) on_ic
theorem s_49_66 : S49 66 (ia_al 67 0) := sa_n (snd_aload_n dX0_numbers_66 rfl rfl) on_al
theorem s_49_67 : S49 67 (ia_gfI 70 1 19) := sa_n (snd_gfI ci_1 (k := 19) (lt_c rfl) dX0_numbers_67 (Or.inl q901) (Or.inl rfl) (fun _ _ _ _ => rfl) rfl rfl) on_gfI
theorem s_49_70 : S49 70 (ia_go 77) := sa_n (snd_goto dX0_numbers_70 rfl) on_go
theorem s_49_73 : S49 73 (ia_al 74 0) := sa_n (snd_aload_n dX0_numbers_73 rfl rfl) on_al
theorem s_49_74 : S49 74 (ia_gfI 77 1 20) := sa_n (snd_gfI ci_1 (k := 20) (lt_c rfl) dX0_numbers_74 (Or.inl q902) (Or.inl rfl) (fun _ _ _ _ => rfl) rfl rfl) on_gfI
theorem s_49_77 : S49 77 (ia_retI) := sa_t (st_retI dX0_numbers_77 rfl) on_retI
theorem sa_49 (pc : Nat) : S49 pc (cd_49 pc) := sa_c (sa_c (sa_c (sa_c (sa_c (sa_l s_49_0) (sa_l s_49_1)) (sa_c (sa_l s_49_2) (sa_c (sa_l s_49_3) (sa_l s_49_6)))) (sa_c (sa_c (sa_l s_49_9) (sa_l s_49_10)) (sa_c (sa_l s_49_11) (sa_c (sa_l s_49_12) (sa_l s_49_15))))) (sa_c (sa_c (sa_c (sa_l s_49_18) (sa_l s_49_20)) (sa_c (sa_l s_49_21) (sa_c (sa_l s_49_22) (sa_l s_49_25)))) (sa_c (sa_c (sa_l s_49_28) (sa_l s_49_29)) (sa_c (sa_l s_49_32) (sa_c (sa_l s_49_35) (sa_l s_49_38)))))) (sa_c (sa_c (sa_c (sa_c (sa_l s_49_40) (sa_l s_49_41)) (sa_c (sa_l s_49_42) (sa_c (sa_l s_49_43) (sa_l s_49_44)))) (sa_c (sa_c (sa_l s_49_45) (sa_l s_49_48)) (sa_c (sa_l s_49_50) (sa_c (sa_l s_49_52) (sa_l s_49_55))))) (sa_c (sa_c (sa_c (sa_l s_49_57) (sa_l s_49_60)) (sa_c (sa_l s_49_62) (sa_c (sa_l s_49_63) (sa_l s_49_66)))) (sa_c (sa_c (sa_l s_49_67) (sa_l s_49_70)) (sa_c (sa_l s_49_73) (sa_c (sa_l s_49_74) (sa_l s_49_77))))))
abbrev S50 (pc : Nat) (x : XI) : Prop := SA "WeekFoot" cX0_numbersOf 6 "numbersOf" (some .int) pc x
theorem s_50_0 : S50 0 (ia_k 1 0) := sa_n (snd_iconst dX0_numbersOf_0 rfl (okI_c rfl) rfl) on_k
theorem s_50_1 : S50 1 (ia_is 3 4) := sa_n (snd_istore dX0_numbersOf_1 (lt_c rfl) rfl) on_is
theorem s_50_3 : S50 3 (ia_al 4 0) := sa_n (snd_aload_n dX0_numbersOf_3 rfl rfl) on_al
theorem s_50_4 : S50 4 (ia_k 5 (-1)) := sa_n (snd_iconst dX0_numbersOf_4 rfl (okI_c rfl) rfl) on_k
theorem s_50_5 : S50 5 (ia_pfI 8 1 19) := sa_n (snd_pfI ci_1 (k := 19) (lt_c rfl) dX0_numbersOf_5 q901 (Or.inl rfl) (Or.inl rfl) (rfl) rfl rfl) on_pfI
theorem s_50_8 : S50 8 (ia_al 9 0) := sa_n (snd_aload_n dX0_numbersOf_8 rfl rfl) on_al
theorem s_50_9 : S50 9 (ia_k 10 (-1)) := sa_n (snd_iconst dX0_numbersOf_9 rfl (okI_c rfl) rfl) on_k
theorem s_50_10 : S50 10 (ia_pfI 13 1 20) := sa_n (snd_pfI ci_1 (k := 20) (lt_c rfl) dX0_numbersOf_10 q902 (Or.inl rfl) (Or.inl rfl) (rfl) rfl rfl) on_pfI
theorem s_50_13 : S50 13 (ia_k 14 1) := sa_n (snd_iconst dX0_numbersOf_13 rfl (okI_c rfl) rfl) on_k
theorem s_50_14 : S50 14 (ia_is 16 5) := sa_n (snd_istore dX0_numbersOf_14 (lt_c rfl) rfl) on_is
theorem s_50_16 : S50 16 (ia_keep [0, 1, 2, 3, 4, 5] (ia_il 18 5)) := sa_nk (snd_iload dX0_numbersOf_16 rfl) on_il
theorem s_50_18 : S50 18 (ia_k 20 99) := sa_n (snd_bipush dX0_numbersOf_18 (by decide) (okI_c rfl) rfl) on_k
theorem s_50_20 : S50 20 (ia_ic k2G 23 82) := sa_b (sndB_ic_gt dX0_numbersOf_20 rfl rfl) on_ic
theorem s_50_23 : S50 23 (ia_al 24 0) := sa_n (snd_aload_n dX0_numbersOf_23 rfl rfl) on_al
theorem s_50_24 : S50 24 (ia_al 25 0) := sa_n (snd_aload_n dX0_numbersOf_24 rfl rfl) on_al
theorem s_50_25 : S50 25 (ia_gfR 28 1 13) := sa_n (snd_gfR ci_1 (k := 13) (lt_c rfl) dX0_numbersOf_25 (Or.inl q895) (Or.inl rfl) (fun _ _ _ _ => rfl) rfl rfl) on_gfR
theorem s_50_28 : S50 28 (ia_k 29 3) := sa_n (snd_iconst dX0_numbersOf_28 rfl (okI_c rfl) rfl) on_k
theorem s_50_29 : S50 29 (ia_il 31 5) := sa_n (snd_iload dX0_numbersOf_29 rfl) on_il
theorem s_50_31 : S50 31 (ia_mul 32) := sa_n (snd_imul dX0_numbersOf_31 rfl) on_mul
theorem s_50_32 : S50 32 (ia_il 33 3) := sa_n (snd_iload_n dX0_numbersOf_32 rfl rfl) on_il
theorem s_50_33 : S50 33 (ia_add 34) := sa_n (snd_iadd dX0_numbersOf_33 rfl) on_add
theorem s_50_34 : S50 34 (ia_ldR 35 107) := sa_n (snd_aaload (by decide) dX0_numbersOf_34 rfl) on_ldR
theorem s_50_35 : S50 35 (ia_il 36 1) := sa_n (snd_iload_n dX0_numbersOf_35 rfl rfl) on_il
theorem s_50_36 : S50 36 (ia_il 37 2) := sa_n (snd_iload_n dX0_numbersOf_36 rfl rfl) on_il
theorem s_50_37 : S50 37 (ia_call 40 4 1 46 7) := sk_V me_46 q1125 dX0_numbersOf_37 rfl
theorem s_50_40 : S50 40 (ia_if k0n 43 46) := sa_b (sndB_if_ne dX0_numbersOf_40 rfl rfl) on_if
theorem s_50_43 : S50 43 (ia_go 76) := sa_n (snd_goto dX0_numbersOf_43 rfl) on_go
theorem s_50_46 : S50 46 (ia_inc 49 4 1) := sa_n (snd_iinc dX0_numbersOf_46 rfl (lt_c rfl) rfl) on_inc
theorem s_50_49 : S50 49 (ia_al 50 0) := sa_n (snd_aload_n dX0_numbersOf_49 rfl rfl) on_al
theorem s_50_50 : S50 50 (ia_al 51 0) := sa_n (snd_aload_n dX0_numbersOf_50 rfl rfl) on_al
theorem s_50_51 : S50 51 (ia_gfI 54 1 19) := sa_n (snd_gfI ci_1 (k := 19) (lt_c rfl) dX0_numbersOf_51 (Or.inl q901) (Or.inl rfl) (fun _ _ _ _ => rfl) rfl rfl) on_gfI
theorem s_50_54 : S50 54 (ia_k 55 (-1)) := sa_n (snd_iconst dX0_numbersOf_54 rfl (okI_c rfl) rfl) on_k
theorem s_50_55 : S50 55 (ia_ic k2n 58 63) := sa_b (sndB_ic_ne dX0_numbersOf_55 rfl rfl) on_ic
theorem s_50_58 : S50 58 (ia_il 60 5) := sa_n (snd_iload dX0_numbersOf_58 rfl) on_il
theorem s_50_60 : S50 60 (ia_go 67) := sa_n (snd_goto dX0_numbersOf_60 rfl) on_go
theorem s_50_63 : S50 63 (ia_al 64 0) := sa_n (snd_aload_n dX0_numbersOf_63 rfl rfl) on_al
theorem s_50_64 : S50 64 (ia_gfI 67 1 19) := sa_n (snd_gfI ci_1 (k := 19) (lt_c rfl) dX0_numbersOf_64 (Or.inl q901) (Or.inl rfl) (fun _ _ _ _ => rfl) rfl rfl) on_gfI
theorem s_50_67 : S50 67 (ia_pfI 70 1 19) := sa_n (snd_pfI ci_1 (k := 19) (lt_c rfl) dX0_numbersOf_67 q901 (Or.inl rfl) (Or.inl rfl) (rfl) rfl rfl) on_pfI
theorem s_50_70 : S50 70 (ia_al 71 0) := sa_n (snd_aload_n dX0_numbersOf_70 rfl rfl) on_al
theorem s_50_71 : S50 71 (ia_il 73 5) := sa_n (snd_iload dX0_numbersOf_71 rfl) on_il
theorem s_50_73 : S50 73 (ia_pfI 76 1 20) := sa_n (snd_pfI ci_1 (k := 20) (lt_c rfl) dX0_numbersOf_73 q902 (Or.inl rfl) (Or.inl rfl) (rfl) rfl rfl) on_pfI
theorem s_50_76 : S50 76 (ia_inc 79 5 1) := sa_n (snd_iinc dX0_numbersOf_76 rfl (lt_c rfl) rfl) on_inc
theorem s_50_79 : S50 79 (ia_go 16) := sa_n (snd_goto dX0_numbersOf_79 rfl) on_go
theorem s_50_82 : S50 82 (ia_il 84 4) := sa_n (snd_iload dX0_numbersOf_82 rfl) on_il
theorem s_50_84 : S50 84 (ia_retI) := sa_t (st_retI dX0_numbersOf_84 rfl) on_retI
theorem sa_50 (pc : Nat) : S50 pc (cd_50 pc) := sa_c (sa_c (sa_c (sa_c (sa_c (sa_l s_50_0) (sa_l s_50_1)) (sa_c (sa_l s_50_3) (sa_c (sa_l s_50_4) (sa_l s_50_5)))) (sa_c (sa_c (sa_l s_50_8) (sa_c (sa_l s_50_9) (sa_l s_50_10))) (sa_c (sa_l s_50_13) (sa_c (sa_l s_50_14) (sa_l s_50_16))))) (sa_c (sa_c (sa_c (sa_l s_50_18) (sa_l s_50_20)) (sa_c (sa_l s_50_23) (sa_c (sa_l s_50_24) (sa_l s_50_25)))) (sa_c (sa_c (sa_l s_50_28) (sa_c (sa_l s_50_29) (sa_l s_50_31))) (sa_c (sa_l s_50_32) (sa_c (sa_l s_50_33) (sa_l s_50_34)))))) (sa_c (sa_c (sa_c (sa_c (sa_l s_50_35) (sa_l s_50_36)) (sa_c (sa_l s_50_37) (sa_c (sa_l s_50_40) (sa_l s_50_43)))) (sa_c (sa_c (sa_l s_50_46) (sa_c (sa_l s_50_49) (sa_l s_50_50))) (sa_c (sa_l s_50_51) (sa_c (sa_l s_50_54) (sa_l s_50_55))))) (sa_c (sa_c (sa_c (sa_l s_50_58) (sa_c (sa_l s_50_60) (sa_l s_50_63))) (sa_c (sa_l s_50_64) (sa_c (sa_l s_50_67) (sa_l s_50_70)))) (sa_c (sa_c (sa_l s_50_71) (sa_c (sa_l s_50_73) (sa_l s_50_76))) (sa_c (sa_l s_50_79) (sa_c (sa_l s_50_82) (sa_l s_50_84))))))
abbrev S51 (pc : Nat) (x : XI) : Prop := SA "WeekFoot" cX0_ask 7 "ask" (some .int) pc x
theorem s_51_0 : S51 0 (ia_il 1 1) := sa_n (snd_iload_n dX0_ask_0 rfl rfl) on_il
theorem s_51_1 : S51 1 (ia_k 2 0) := sa_n (snd_iconst dX0_ask_1 rfl (okI_c rfl) rfl) on_k
theorem s_51_2 : S51 2 (ia_k 3 2) := sa_n (snd_iconst dX0_ask_2 rfl (okI_c rfl) rfl) on_k
theorem s_51_3 : S51 3 (ia_stat 6 3 2 3) := sk_S me_2 q138 dX0_ask_3 rfl
theorem s_51_6 : S51 6 (ia_if k0e 9 19) := sa_b (sndB_if_eq dX0_ask_6 rfl rfl) on_if
theorem s_51_9 : S51 9 (ia_al 10 0) := sa_n (snd_aload_n dX0_ask_9 rfl rfl) on_al
theorem s_51_10 : S51 10 (ia_gfR 13 1 11) := sa_n (snd_gfR ci_1 (k := 11) (lt_c rfl) dX0_ask_10 (Or.inl q892) (Or.inl rfl) (fun _ _ _ _ => rfl) rfl rfl) on_gfR
theorem s_51_13 : S51 13 (ia_call 16 1 4 88 1) := sk_V me_88 q971 dX0_ask_13 rfl
theorem s_51_16 : S51 16 (ia_if k0n 19 21) := sa_b (sndB_if_ne dX0_ask_16 rfl rfl) on_if
theorem s_51_19 : S51 19 (ia_k 20 (-1)) := sa_n (snd_iconst dX0_ask_19 rfl (okI_c rfl) rfl) on_k
theorem s_51_20 : S51 20 (ia_retI) := sa_t (st_retI dX0_ask_20 rfl) on_retI
theorem s_51_21 : S51 21 (ia_k 22 (-1)) := sa_n (snd_iconst dX0_ask_21 rfl (okI_c rfl) rfl) on_k
theorem s_51_22 : S51 22 (ia_is 23 2) := sa_n (snd_istore_n dX0_ask_22 rfl (lt_c rfl) rfl) on_is
theorem s_51_23 : S51 23 (ia_k 24 (-1)) := sa_n (snd_iconst dX0_ask_23 rfl (okI_c rfl) rfl) on_k
theorem s_51_24 : S51 24 (ia_is 25 3) := sa_n (snd_istore_n dX0_ask_24 rfl (lt_c rfl) rfl) on_is
theorem s_51_25 : S51 25 (ia_k 26 0) := sa_n (snd_iconst dX0_ask_25 rfl (okI_c rfl) rfl) on_k
theorem s_51_26 : S51 26 (ia_is 28 4) := sa_n (snd_istore dX0_ask_26 (lt_c rfl) rfl) on_is
theorem s_51_28 : S51 28 (ia_keep [0, 1, 2, 3, 4] (ia_il 30 4)) := sa_nk (snd_iload dX0_ask_28 rfl) on_il
theorem s_51_30 : S51 30 (ia_k 32 12) := sa_n (snd_bipush dX0_ask_30 (by decide) (okI_c rfl) rfl) on_k
theorem s_51_32 : S51 32 (ia_ic k2g 35 96) := sa_b (sndB_ic_ge dX0_ask_32 rfl rfl) on_ic
theorem s_51_35 : S51 35 (ia_k 36 0) := sa_n (snd_iconst dX0_ask_35 rfl (okI_c rfl) rfl) on_k
theorem s_51_36 : S51 36 (ia_is 38 5) := sa_n (snd_istore dX0_ask_36 (lt_c rfl) rfl) on_is
theorem s_51_38 : S51 38 (ia_keep [0, 1, 2, 3, 4, 5] (ia_il 40 5)) := sa_nk (snd_iload dX0_ask_38 rfl) on_il
theorem s_51_40 : S51 40 (ia_k 41 4) := sa_n (snd_iconst dX0_ask_40 rfl (okI_c rfl) rfl) on_k
theorem s_51_41 : S51 41 (ia_ic k2g 44 90) := sa_b (sndB_ic_ge dX0_ask_41 rfl rfl) on_ic
theorem s_51_44 : S51 44 (ia_al 45 0) := sa_n (snd_aload_n dX0_ask_44 rfl rfl) on_al
theorem s_51_45 : S51 45 (ia_il 47 4) := sa_n (snd_iload dX0_ask_45 rfl) on_il
theorem s_51_47 : S51 47 (ia_call 50 2 1 30 2) := sk_V me_30 q1045 dX0_ask_47 rfl
theorem s_51_50 : S51 50 (ia_if k0e 53 90) := sa_b (sndB_if_eq dX0_ask_50 rfl rfl) on_if
theorem s_51_53 : S51 53 (ia_al 54 0) := sa_n (snd_aload_n dX0_ask_53 rfl rfl) on_al
theorem s_51_54 : S51 54 (ia_il 56 4) := sa_n (snd_iload dX0_ask_54 rfl) on_il
theorem s_51_56 : S51 56 (ia_il 58 5) := sa_n (snd_iload dX0_ask_56 rfl) on_il
theorem s_51_58 : S51 58 (ia_k 59 1) := sa_n (snd_iconst dX0_ask_58 rfl (okI_c rfl) rfl) on_k
theorem s_51_59 : S51 59 (ia_call 62 4 1 50 6) := sk_V me_50 q1143 dX0_ask_59 rfl
theorem s_51_62 : S51 62 (ia_is 64 6) := sa_n (snd_istore dX0_ask_62 (lt_c rfl) rfl) on_is
theorem s_51_64 : S51 64 (ia_il 66 6) := sa_n (snd_iload dX0_ask_64 rfl) on_il
theorem s_51_66 : S51 66 (ia_il 67 3) := sa_n (snd_iload_n dX0_ask_66 rfl rfl) on_il
theorem s_51_67 : S51 67 (ia_ic k2G 70 73) := sa_b (sndB_ic_gt dX0_ask_67 rfl rfl) on_ic
theorem s_51_70 : S51 70 (ia_go 84) := sa_n (snd_goto dX0_ask_70 rfl) on_go
theorem s_51_73 : S51 73 (ia_k 74 4) := sa_n (snd_iconst dX0_ask_73 rfl (okI_c rfl) rfl) on_k
theorem s_51_74 : S51 74 (ia_il 76 4) := sa_n (snd_iload dX0_ask_74 rfl) on_il
theorem s_51_76 : S51 76 (ia_mul 77) := sa_n (snd_imul dX0_ask_76 rfl) on_mul
theorem s_51_77 : S51 77 (ia_il 79 5) := sa_n (snd_iload dX0_ask_77 rfl) on_il
theorem s_51_79 : S51 79 (ia_add 80) := sa_n (snd_iadd dX0_ask_79 rfl) on_add
theorem s_51_80 : S51 80 (ia_is 81 2) := sa_n (snd_istore_n dX0_ask_80 rfl (lt_c rfl) rfl) on_is
theorem s_51_81 : S51 81 (ia_il 83 6) := sa_n (snd_iload dX0_ask_81 rfl) on_il
theorem s_51_83 : S51 83 (ia_is 84 3) := sa_n (snd_istore_n dX0_ask_83 rfl (lt_c rfl) rfl) on_is
theorem s_51_84 : S51 84 (ia_inc 87 5 1) := sa_n (snd_iinc dX0_ask_84 rfl (lt_c rfl) rfl) on_inc
theorem s_51_87 : S51 87 (ia_go 38) := sa_n (snd_goto dX0_ask_87 rfl) on_go
theorem s_51_90 : S51 90 (ia_inc 93 4 1) := sa_n (snd_iinc dX0_ask_90 rfl (lt_c rfl) rfl) on_inc
theorem s_51_93 : S51 93 (ia_go 28) := sa_n (snd_goto dX0_ask_93 rfl) on_go
theorem s_51_96 : S51 96 (ia_il 97 1) := sa_n (snd_iload_n dX0_ask_96 rfl rfl) on_il
theorem s_51_97 : S51 97 (ia_if k0n 100 106) := sa_b (sndB_if_ne dX0_ask_97 rfl rfl) on_if
theorem s_51_100 : S51 100 (ia_il 101 2) := sa_n (snd_iload_n dX0_ask_100 rfl rfl) on_il
theorem s_51_101 : S51 101 (ia_k 102 4) := sa_n (snd_iconst dX0_ask_101 rfl (okI_c rfl) rfl) on_k
theorem s_51_102 : S51 102 (ia_div 103) := sa_n (snd_idiv dX0_ask_102 rfl) on_div
theorem s_51_103 : S51 103 (ia_go 118) := sa_n (snd_goto dX0_ask_103 rfl) on_go
theorem s_51_106 : S51 106 (ia_il 107 1) := sa_n (snd_iload_n dX0_ask_106 rfl rfl) on_il
theorem s_51_107 : S51 107 (ia_k 108 1) := sa_n (snd_iconst dX0_ask_107 rfl (okI_c rfl) rfl) on_k
theorem s_51_108 : S51 108 (ia_ic k2n 111 117) := sa_b (sndB_ic_ne dX0_ask_108 rfl rfl) on_ic
theorem s_51_111 : S51 111 (ia_il 112 2) := sa_n (snd_iload_n dX0_ask_111 rfl rfl) on_il
theorem s_51_112 : S51 112 (ia_k 113 4) := sa_n (snd_iconst dX0_ask_112 rfl (okI_c rfl) rfl) on_k
theorem s_51_113 : S51 113 (ia_rem 114) := sa_n (snd_irem dX0_ask_113 rfl) on_rem
theorem s_51_114 : S51 114 (ia_go 118) := sa_n (snd_goto dX0_ask_114 rfl) on_go
theorem s_51_117 : S51 117 (ia_il 118 3) := sa_n (snd_iload_n dX0_ask_117 rfl rfl) on_il
theorem s_51_118 : S51 118 (ia_retI) := sa_t (st_retI dX0_ask_118 rfl) on_retI
theorem sa_51_0 (pc : Nat) : S51 pc (cd_51_0 pc) := sa_c (sa_c (sa_c (sa_c (sa_c (sa_l s_51_0) (sa_l s_51_1)) (sa_c (sa_l s_51_2) (sa_l s_51_3))) (sa_c (sa_c (sa_l s_51_6) (sa_l s_51_9)) (sa_c (sa_l s_51_10) (sa_l s_51_13)))) (sa_c (sa_c (sa_c (sa_l s_51_16) (sa_l s_51_19)) (sa_c (sa_l s_51_20) (sa_l s_51_21))) (sa_c (sa_c (sa_l s_51_22) (sa_l s_51_23)) (sa_c (sa_l s_51_24) (sa_l s_51_25))))) (sa_c (sa_c (sa_c (sa_c (sa_l s_51_26) (sa_l s_51_28)) (sa_c (sa_l s_51_30) (sa_l s_51_32))) (sa_c (sa_c (sa_l s_51_35) (sa_l s_51_36)) (sa_c (sa_l s_51_38) (sa_l s_51_40)))) (sa_c (sa_c (sa_c (sa_l s_51_41) (sa_l s_51_44)) (sa_c (sa_l s_51_45) (sa_l s_51_47))) (sa_c (sa_c (sa_l s_51_50) (sa_l s_51_53)) (sa_c (sa_l s_51_54) (sa_c (sa_l s_51_56) (sa_l s_51_58))))))
theorem sa_51_1 (pc : Nat) : S51 pc (cd_51_1 pc) := sa_c (sa_c (sa_c (sa_c (sa_c (sa_l s_51_59) (sa_l s_51_62)) (sa_c (sa_l s_51_64) (sa_l s_51_66))) (sa_c (sa_c (sa_l s_51_67) (sa_l s_51_70)) (sa_c (sa_l s_51_73) (sa_l s_51_74)))) (sa_c (sa_c (sa_c (sa_l s_51_76) (sa_l s_51_77)) (sa_c (sa_l s_51_79) (sa_l s_51_80))) (sa_c (sa_c (sa_l s_51_81) (sa_l s_51_83)) (sa_c (sa_l s_51_84) (sa_l s_51_87))))) (sa_c (sa_c (sa_c (sa_c (sa_l s_51_90) (sa_l s_51_93)) (sa_c (sa_l s_51_96) (sa_l s_51_97))) (sa_c (sa_c (sa_l s_51_100) (sa_l s_51_101)) (sa_c (sa_l s_51_102) (sa_l s_51_103)))) (sa_c (sa_c (sa_c (sa_l s_51_106) (sa_l s_51_107)) (sa_c (sa_l s_51_108) (sa_l s_51_111))) (sa_c (sa_c (sa_l s_51_112) (sa_l s_51_113)) (sa_c (sa_l s_51_114) (sa_c (sa_l s_51_117) (sa_l s_51_118))))))
theorem sa_51 (pc : Nat) : S51 pc (cd_51 pc) := sa_c (sa_51_0 pc) (sa_51_1 pc)
abbrev S52 (pc : Nat) (x : XI) : Prop := SA "WeekFoot" cX0_dates 10 "dates" (some .int) pc x
theorem s_52_0 : S52 0 (ia_il 1 1) := sa_n (snd_iload_n dX0_dates_0 rfl rfl) on_il
theorem s_52_1 : S52 1 (ia_stat 4 1 12 1) := sk_S me_12 q331 dX0_dates_1 rfl
theorem s_52_4 : S52 4 (ia_if k0e 7 35) := sa_b (sndB_if_eq dX0_dates_4 rfl rfl) on_if
theorem s_52_7 : S52 7 (ia_il 8 2) := sa_n (snd_iload_n dX0_dates_7 rfl rfl) on_il
theorem s_52_8 : S52 8 (ia_il 9 3) := sa_n (snd_iload_n dX0_dates_8 rfl rfl) on_il
theorem s_52_9 : S52 9 (ia_stat 12 2 45 2) := sk_S me_45 q1122 dX0_dates_9 rfl
theorem s_52_12 : S52 12 (ia_if k0e 15 35) := sa_b (sndB_if_eq dX0_dates_12 rfl rfl) on_if
theorem s_52_15 : S52 15 (ia_il 17 4) := sa_n (snd_iload dX0_dates_15 rfl) on_il
theorem s_52_17 : S52 17 (ia_k 18 0) := sa_n (snd_iconst dX0_dates_17 rfl (okI_c rfl) rfl) on_k
theorem s_52_18 : S52 18 (ia_k 19 2) := sa_n (snd_iconst dX0_dates_18 rfl (okI_c rfl) rfl) on_k
theorem s_52_19 : S52 19 (ia_stat 22 3 2 3) := sk_S me_2 q138 dX0_dates_19 rfl
theorem s_52_22 : S52 22 (ia_if k0e 25 35) := sa_b (sndB_if_eq dX0_dates_22 rfl rfl) on_if
theorem s_52_25 : S52 25 (ia_al 26 0) := sa_n (snd_aload_n dX0_dates_25 rfl rfl) on_al
theorem s_52_26 : S52 26 (ia_gfR 29 1 11) := sa_n (snd_gfR ci_1 (k := 11) (lt_c rfl) dX0_dates_26 (Or.inl q892) (Or.inl rfl) (fun _ _ _ _ => rfl) rfl rfl) on_gfR
theorem s_52_29 : S52 29 (ia_call 32 1 4 88 1) := sk_V me_88 q971 dX0_dates_29 rfl
theorem s_52_32 : S52 32 (ia_if k0n 35 38) := sa_b (sndB_if_ne dX0_dates_32 rfl rfl) on_if
theorem s_52_35 : S52 35 (ia_k 37 (-2)) := sa_n (snd_bipush dX0_dates_35 (by decide) (okI_c rfl) rfl) on_k
theorem s_52_37 : S52 37 (ia_retI) := sa_t (st_retI dX0_dates_37 rfl) on_retI
theorem s_52_38 : S52 38 (ia_k 39 0) := sa_n (snd_iconst dX0_dates_38 rfl (okI_c rfl) rfl) on_k
theorem s_52_39 : S52 39 (ia_is 41 5) := sa_n (snd_istore dX0_dates_39 (lt_c rfl) rfl) on_is
theorem s_52_41 : S52 41 (ia_k 42 (-1)) := sa_n (snd_iconst dX0_dates_41 rfl (okI_c rfl) rfl) on_k
theorem s_52_42 : S52 42 (ia_is 44 6) := sa_n (snd_istore dX0_dates_42 (lt_c rfl) rfl) on_is
theorem s_52_44 : S52 44 (ia_k 45 (-1)) := sa_n (snd_iconst dX0_dates_44 rfl (okI_c rfl) rfl) on_k
theorem s_52_45 : S52 45 (ia_is 47 7) := sa_n (snd_istore dX0_dates_45 (lt_c rfl) rfl) on_is
theorem s_52_47 : S52 47 (ia_k 48 0) := sa_n (snd_iconst dX0_dates_47 rfl (okI_c rfl) rfl) on_k
theorem s_52_48 : S52 48 (ia_is 50 8) := sa_n (snd_istore dX0_dates_48 (lt_c rfl) rfl) on_is
theorem s_52_50 : S52 50 (ia_keep [0, 1, 2, 3, 4, 5, 6, 7, 8] (ia_il 52 8)) := sa_nk (snd_iload dX0_dates_50 rfl) on_il
theorem s_52_52 : S52 52 (ia_k 54 32) := sa_n (snd_bipush dX0_dates_52 (by decide) (okI_c rfl) rfl) on_k
theorem s_52_54 : S52 54 (ia_ic k2g 57 168) := sa_b (sndB_ic_ge dX0_dates_54 rfl rfl) on_ic
theorem s_52_57 : S52 57 (ia_al 58 0) := sa_n (snd_aload_n dX0_dates_57 rfl rfl) on_al
theorem s_52_58 : S52 58 (ia_gfR 61 1 4) := sa_n (snd_gfR ci_1 (k := 4) (lt_c rfl) dX0_dates_58 (Or.inl q883) (Or.inl rfl) (fun _ _ _ _ => rfl) rfl rfl) on_gfR
theorem s_52_61 : S52 61 (ia_gfR 64 3 1) := sa_n (snd_gfR ci_3 (k := 1) (lt_c rfl) dX0_dates_61 (Or.inr ⟨_, q192⟩) (Or.inl rfl) (fun _ _ _ _ => rfl) rfl rfl) on_gfR
theorem s_52_64 : S52 64 (ia_il 65 1) := sa_n (snd_iload_n dX0_dates_64 rfl rfl) on_il
theorem s_52_65 : S52 65 (ia_ldI 66 100) := sa_n (snd_iaload dX0_dates_65 rfl) on_ldI
theorem s_52_66 : S52 66 (ia_k 67 (-1)) := sa_n (snd_iconst dX0_dates_66 rfl (okI_c rfl) rfl) on_k
theorem s_52_67 : S52 67 (ia_ic k2e 70 91) := sa_b (sndB_ic_eq dX0_dates_67 rfl rfl) on_ic
theorem s_52_70 : S52 70 (ia_il 72 8) := sa_n (snd_iload dX0_dates_70 rfl) on_il
theorem s_52_72 : S52 72 (ia_al 73 0) := sa_n (snd_aload_n dX0_dates_72 rfl rfl) on_al
theorem s_52_73 : S52 73 (ia_gfR 76 1 4) := sa_n (snd_gfR ci_1 (k := 4) (lt_c rfl) dX0_dates_73 (Or.inl q883) (Or.inl rfl) (fun _ _ _ _ => rfl) rfl rfl) on_gfR
theorem s_52_76 : S52 76 (ia_gfR 79 3 1) := sa_n (snd_gfR ci_3 (k := 1) (lt_c rfl) dX0_dates_76 (Or.inr ⟨_, q192⟩) (Or.inl rfl) (fun _ _ _ _ => rfl) rfl rfl) on_gfR
theorem s_52_79 : S52 79 (ia_il 80 1) := sa_n (snd_iload_n dX0_dates_79 rfl rfl) on_il
theorem s_52_80 : S52 80 (ia_ldI 81 100) := sa_n (snd_iaload dX0_dates_80 rfl) on_ldI
theorem s_52_81 : S52 81 (ia_ic k2l 84 91) := sa_b (sndB_ic_lt dX0_dates_81 rfl rfl) on_ic
theorem s_52_84 : S52 84 (ia_il 85 1) := sa_n (snd_iload_n dX0_dates_84 rfl rfl) on_il
theorem s_52_85 : S52 85 (ia_k 87 6) := sa_n (snd_bipush dX0_dates_85 (by decide) (okI_c rfl) rfl) on_k
theorem s_52_87 : S52 87 (ia_add 88) := sa_n (snd_iadd dX0_dates_87 rfl) on_add
theorem s_52_88 : S52 88 (ia_go 92) := sa_n (snd_goto dX0_dates_88 rfl) on_go
theorem s_52_91 : S52 91 (ia_il 92 1) := sa_n (snd_iload_n dX0_dates_91 rfl rfl) on_il
theorem s_52_92 : S52 92 (ia_is 94 9) := sa_n (snd_istore dX0_dates_92 (lt_c rfl) rfl) on_is
theorem s_52_94 : S52 94 (ia_al 95 0) := sa_n (snd_aload_n dX0_dates_94 rfl rfl) on_al
theorem s_52_95 : S52 95 (ia_gfR 98 1 4) := sa_n (snd_gfR ci_1 (k := 4) (lt_c rfl) dX0_dates_95 (Or.inl q883) (Or.inl rfl) (fun _ _ _ _ => rfl) rfl rfl) on_gfR
theorem s_52_98 : S52 98 (ia_gfR 101 3 0) := sa_n (snd_gfR ci_3 (k := 0) (lt_c rfl) dX0_dates_98 (Or.inr ⟨_, q188⟩) (Or.inl rfl) (fun _ _ _ _ => rfl) rfl rfl) on_gfR
theorem s_52_101 : S52 101 (ia_il 103 8) := sa_n (snd_iload dX0_dates_101 rfl) on_il
theorem s_52_103 : S52 103 (ia_ldI 104 100) := sa_n (snd_iaload dX0_dates_103 rfl) on_ldI
theorem s_52_104 : S52 104 (ia_k 105 (-1)) := sa_n (snd_iconst dX0_dates_104 rfl (okI_c rfl) rfl) on_k
theorem s_52_105 : S52 105 (ia_ic k2e 108 162) := sa_b (sndB_ic_eq dX0_dates_105 rfl rfl) on_ic
theorem s_52_108 : S52 108 (ia_al 109 0) := sa_n (snd_aload_n dX0_dates_108 rfl rfl) on_al
theorem s_52_109 : S52 109 (ia_al 110 0) := sa_n (snd_aload_n dX0_dates_109 rfl rfl) on_al
theorem s_52_110 : S52 110 (ia_gfR 113 1 13) := sa_n (snd_gfR ci_1 (k := 13) (lt_c rfl) dX0_dates_110 (Or.inl q895) (Or.inl rfl) (fun _ _ _ _ => rfl) rfl rfl) on_gfR
theorem s_52_113 : S52 113 (ia_k 114 3) := sa_n (snd_iconst dX0_dates_113 rfl (okI_c rfl) rfl) on_k
theorem s_52_114 : S52 114 (ia_il 115 2) := sa_n (snd_iload_n dX0_dates_114 rfl rfl) on_il
theorem s_52_115 : S52 115 (ia_mul 116) := sa_n (snd_imul dX0_dates_115 rfl) on_mul
theorem s_52_116 : S52 116 (ia_il 117 3) := sa_n (snd_iload_n dX0_dates_116 rfl rfl) on_il
theorem s_52_117 : S52 117 (ia_add 118) := sa_n (snd_iadd dX0_dates_117 rfl) on_add
theorem s_52_118 : S52 118 (ia_ldR 119 107) := sa_n (snd_aaload (by decide) dX0_dates_118 rfl) on_ldR
theorem s_52_119 : S52 119 (ia_il 121 9) := sa_n (snd_iload dX0_dates_119 rfl) on_il
theorem s_52_121 : S52 121 (ia_al 122 0) := sa_n (snd_aload_n dX0_dates_121 rfl rfl) on_al
theorem s_52_122 : S52 122 (ia_gfR 125 1 4) := sa_n (snd_gfR ci_1 (k := 4) (lt_c rfl) dX0_dates_122 (Or.inl q883) (Or.inl rfl) (fun _ _ _ _ => rfl) rfl rfl) on_gfR
theorem s_52_125 : S52 125 (ia_gfR 128 3 0) := sa_n (snd_gfR ci_3 (k := 0) (lt_c rfl) dX0_dates_125 (Or.inr ⟨_, q188⟩) (Or.inl rfl) (fun _ _ _ _ => rfl) rfl rfl) on_gfR
theorem s_52_128 : S52 128 (ia_il 130 8) := sa_n (snd_iload dX0_dates_128 rfl) on_il
theorem s_52_130 : S52 130 (ia_ldI 131 100) := sa_n (snd_iaload dX0_dates_130 rfl) on_ldI
theorem s_52_131 : S52 131 (ia_call 134 4 1 46 7) := sk_V me_46 q1125 dX0_dates_131 rfl
theorem s_52_134 : S52 134 (ia_if k0n 137 140) := sa_b (sndB_if_ne dX0_dates_134 rfl rfl) on_if
theorem s_52_137 : S52 137 (ia_go 162) := sa_n (snd_goto dX0_dates_137 rfl) on_go
theorem s_52_140 : S52 140 (ia_inc 143 5 1) := sa_n (snd_iinc dX0_dates_140 rfl (lt_c rfl) rfl) on_inc
theorem s_52_143 : S52 143 (ia_il 145 6) := sa_n (snd_iload dX0_dates_143 rfl) on_il
theorem s_52_145 : S52 145 (ia_k 146 (-1)) := sa_n (snd_iconst dX0_dates_145 rfl (okI_c rfl) rfl) on_k
theorem s_52_146 : S52 146 (ia_ic k2n 149 154) := sa_b (sndB_ic_ne dX0_dates_146 rfl rfl) on_ic
theorem s_52_149 : S52 149 (ia_il 151 8) := sa_n (snd_iload dX0_dates_149 rfl) on_il
theorem s_52_151 : S52 151 (ia_go 156) := sa_n (snd_goto dX0_dates_151 rfl) on_go
theorem s_52_154 : S52 154 (ia_il 156 6) := sa_n (snd_iload dX0_dates_154 rfl) on_il
theorem s_52_156 : S52 156 (ia_is 158 6) := sa_n (snd_istore dX0_dates_156 (lt_c rfl) rfl) on_is
theorem s_52_158 : S52 158 (ia_il 160 8) := sa_n (snd_iload dX0_dates_158 rfl) on_il
theorem s_52_160 : S52 160 (ia_is 162 7) := sa_n (snd_istore dX0_dates_160 (lt_c rfl) rfl) on_is
theorem s_52_162 : S52 162 (ia_inc 165 8 1) := sa_n (snd_iinc dX0_dates_162 rfl (lt_c rfl) rfl) on_inc
theorem s_52_165 : S52 165 (ia_go 50) := sa_n (snd_goto dX0_dates_165 rfl) on_go
theorem s_52_168 : S52 168 (ia_il 170 4) := sa_n (snd_iload dX0_dates_168 rfl) on_il
theorem s_52_170 : S52 170 (ia_if k0n 173 178) := sa_b (sndB_if_ne dX0_dates_170 rfl rfl) on_if
theorem s_52_173 : S52 173 (ia_il 175 5) := sa_n (snd_iload dX0_dates_173 rfl) on_il
theorem s_52_175 : S52 175 (ia_go 191) := sa_n (snd_goto dX0_dates_175 rfl) on_go
theorem s_52_178 : S52 178 (ia_il 180 4) := sa_n (snd_iload dX0_dates_178 rfl) on_il
theorem s_52_180 : S52 180 (ia_k 181 1) := sa_n (snd_iconst dX0_dates_180 rfl (okI_c rfl) rfl) on_k
theorem s_52_181 : S52 181 (ia_ic k2n 184 189) := sa_b (sndB_ic_ne dX0_dates_181 rfl rfl) on_ic
theorem s_52_184 : S52 184 (ia_il 186 6) := sa_n (snd_iload dX0_dates_184 rfl) on_il
theorem s_52_186 : S52 186 (ia_go 191) := sa_n (snd_goto dX0_dates_186 rfl) on_go
theorem s_52_189 : S52 189 (ia_il 191 7) := sa_n (snd_iload dX0_dates_189 rfl) on_il
theorem s_52_191 : S52 191 (ia_retI) := sa_t (st_retI dX0_dates_191 rfl) on_retI
theorem sa_52_0 (pc : Nat) : S52 pc (cd_52_0 pc) := sa_c (sa_c (sa_c (sa_c (sa_c (sa_l s_52_0) (sa_c (sa_l s_52_1) (sa_l s_52_4))) (sa_c (sa_l s_52_7) (sa_c (sa_l s_52_8) (sa_l s_52_9)))) (sa_c (sa_c (sa_l s_52_12) (sa_c (sa_l s_52_15) (sa_l s_52_17))) (sa_c (sa_l s_52_18) (sa_c (sa_l s_52_19) (sa_l s_52_22))))) (sa_c (sa_c (sa_c (sa_l s_52_25) (sa_c (sa_l s_52_26) (sa_l s_52_29))) (sa_c (sa_l s_52_32) (sa_c (sa_l s_52_35) (sa_l s_52_37)))) (sa_c (sa_c (sa_l s_52_38) (sa_c (sa_l s_52_39) (sa_l s_52_41))) (sa_c (sa_l s_52_42) (sa_c (sa_l s_52_44) (sa_l s_52_45)))))) (sa_c (sa_c (sa_c (sa_c (sa_l s_52_47) (sa_c (sa_l s_52_48) (sa_l s_52_50))) (sa_c (sa_l s_52_52) (sa_c (sa_l s_52_54) (sa_l s_52_57)))) (sa_c (sa_c (sa_l s_52_58) (sa_c (sa_l s_52_61) (sa_l s_52_64))) (sa_c (sa_l s_52_65) (sa_c (sa_l s_52_66) (sa_l s_52_67))))) (sa_c (sa_c (sa_c (sa_l s_52_70) (sa_c (sa_l s_52_72) (sa_l s_52_73))) (sa_c (sa_l s_52_76) (sa_c (sa_l s_52_79) (sa_l s_52_80)))) (sa_c (sa_c (sa_l s_52_81) (sa_c (sa_l s_52_84) (sa_l s_52_85))) (sa_c (sa_c (sa_l s_52_87) (sa_l s_52_88)) (sa_c (sa_l s_52_91) (sa_l s_52_92))))))
theorem sa_52_1 (pc : Nat) : S52 pc (cd_52_1 pc) := sa_c (sa_c (sa_c (sa_c (sa_c (sa_l s_52_94) (sa_c (sa_l s_52_95) (sa_l s_52_98))) (sa_c (sa_l s_52_101) (sa_c (sa_l s_52_103) (sa_l s_52_104)))) (sa_c (sa_c (sa_l s_52_105) (sa_c (sa_l s_52_108) (sa_l s_52_109))) (sa_c (sa_l s_52_110) (sa_c (sa_l s_52_113) (sa_l s_52_114))))) (sa_c (sa_c (sa_c (sa_l s_52_115) (sa_c (sa_l s_52_116) (sa_l s_52_117))) (sa_c (sa_l s_52_118) (sa_c (sa_l s_52_119) (sa_l s_52_121)))) (sa_c (sa_c (sa_l s_52_122) (sa_c (sa_l s_52_125) (sa_l s_52_128))) (sa_c (sa_l s_52_130) (sa_c (sa_l s_52_131) (sa_l s_52_134)))))) (sa_c (sa_c (sa_c (sa_c (sa_l s_52_137) (sa_c (sa_l s_52_140) (sa_l s_52_143))) (sa_c (sa_l s_52_145) (sa_c (sa_l s_52_146) (sa_l s_52_149)))) (sa_c (sa_c (sa_l s_52_151) (sa_c (sa_l s_52_154) (sa_l s_52_156))) (sa_c (sa_l s_52_158) (sa_c (sa_l s_52_160) (sa_l s_52_162))))) (sa_c (sa_c (sa_c (sa_l s_52_165) (sa_c (sa_l s_52_168) (sa_l s_52_170))) (sa_c (sa_l s_52_173) (sa_c (sa_l s_52_175) (sa_l s_52_178)))) (sa_c (sa_c (sa_l s_52_180) (sa_c (sa_l s_52_181) (sa_l s_52_184))) (sa_c (sa_l s_52_186) (sa_c (sa_l s_52_189) (sa_l s_52_191))))))
theorem sa_52 (pc : Nat) : S52 pc (cd_52 pc) := sa_c (sa_52_0 pc) (sa_52_1 pc)
abbrev S53 (pc : Nat) (x : XI) : Prop := SA "WeekFoot" cX0_joined 3 "joined" (some .int) pc x
theorem s_53_0 : S53 0 (ia_al 1 0) := sa_n (snd_aload_n dX0_joined_0 rfl rfl) on_al
theorem s_53_1 : S53 1 (ia_il 2 1) := sa_n (snd_iload_n dX0_joined_1 rfl rfl) on_il
theorem s_53_2 : S53 2 (ia_call 5 2 1 30 2) := sk_V me_30 q1045 dX0_joined_2 rfl
theorem s_53_5 : S53 5 (ia_if k0e 8 16) := sa_b (sndB_if_eq dX0_joined_5 rfl rfl) on_if
theorem s_53_8 : S53 8 (ia_al 9 0) := sa_n (snd_aload_n dX0_joined_8 rfl rfl) on_al
theorem s_53_9 : S53 9 (ia_il 10 2) := sa_n (snd_iload_n dX0_joined_9 rfl rfl) on_il
theorem s_53_10 : S53 10 (ia_call 13 2 1 30 2) := sk_V me_30 q1045 dX0_joined_10 rfl
theorem s_53_13 : S53 13 (ia_if k0n 16 19) := sa_b (sndB_if_ne dX0_joined_13 rfl rfl) on_if
theorem s_53_16 : S53 16 (ia_k 18 (-2)) := sa_n (snd_bipush dX0_joined_16 (by decide) (okI_c rfl) rfl) on_k
theorem s_53_18 : S53 18 (ia_retI) := sa_t (st_retI dX0_joined_18 rfl) on_retI
theorem s_53_19 : S53 19 (ia_al 20 0) := sa_n (snd_aload_n dX0_joined_19 rfl rfl) on_al
theorem s_53_20 : S53 20 (ia_call 23 1 1 54 3) := sk_V me_54 q1159 dX0_joined_20 rfl
theorem s_53_23 : S53 23 (ia_al 24 0) := sa_n (snd_aload_n dX0_joined_23 rfl rfl) on_al
theorem s_53_24 : S53 24 (ia_gfR 27 1 21) := sa_n (snd_gfR ci_1 (k := 21) (lt_c rfl) dX0_joined_24 (Or.inl q903) (Or.inl rfl) (fun _ _ _ _ => rfl) rfl rfl) on_gfR
theorem s_53_27 : S53 27 (ia_il 28 1) := sa_n (snd_iload_n dX0_joined_27 rfl rfl) on_il
theorem s_53_28 : S53 28 (ia_ldI 29 100) := sa_n (snd_iaload dX0_joined_28 rfl) on_ldI
theorem s_53_29 : S53 29 (ia_al 30 0) := sa_n (snd_aload_n dX0_joined_29 rfl rfl) on_al
theorem s_53_30 : S53 30 (ia_gfR 33 1 21) := sa_n (snd_gfR ci_1 (k := 21) (lt_c rfl) dX0_joined_30 (Or.inl q903) (Or.inl rfl) (fun _ _ _ _ => rfl) rfl rfl) on_gfR
theorem s_53_33 : S53 33 (ia_il 34 2) := sa_n (snd_iload_n dX0_joined_33 rfl rfl) on_il
theorem s_53_34 : S53 34 (ia_ldI 35 100) := sa_n (snd_iaload dX0_joined_34 rfl) on_ldI
theorem s_53_35 : S53 35 (ia_ic k2n 38 42) := sa_b (sndB_ic_ne dX0_joined_35 rfl rfl) on_ic
theorem s_53_38 : S53 38 (ia_k 39 1) := sa_n (snd_iconst dX0_joined_38 rfl (okI_c rfl) rfl) on_k
theorem s_53_39 : S53 39 (ia_go 43) := sa_n (snd_goto dX0_joined_39 rfl) on_go
theorem s_53_42 : S53 42 (ia_k 43 0) := sa_n (snd_iconst dX0_joined_42 rfl (okI_c rfl) rfl) on_k
theorem s_53_43 : S53 43 (ia_retI) := sa_t (st_retI dX0_joined_43 rfl) on_retI
theorem sa_53 (pc : Nat) : S53 pc (cd_53 pc) := sa_c (sa_c (sa_c (sa_c (sa_l s_53_0) (sa_c (sa_l s_53_1) (sa_l s_53_2))) (sa_c (sa_l s_53_5) (sa_c (sa_l s_53_8) (sa_l s_53_9)))) (sa_c (sa_c (sa_l s_53_10) (sa_c (sa_l s_53_13) (sa_l s_53_16))) (sa_c (sa_l s_53_18) (sa_c (sa_l s_53_19) (sa_l s_53_20))))) (sa_c (sa_c (sa_c (sa_l s_53_23) (sa_c (sa_l s_53_24) (sa_l s_53_27))) (sa_c (sa_l s_53_28) (sa_c (sa_l s_53_29) (sa_l s_53_30)))) (sa_c (sa_c (sa_l s_53_33) (sa_c (sa_l s_53_34) (sa_l s_53_35))) (sa_c (sa_c (sa_l s_53_38) (sa_l s_53_39)) (sa_c (sa_l s_53_42) (sa_l s_53_43)))))
abbrev S54 (pc : Nat) (x : XI) : Prop := SA "WeekFoot" cX0_joins 3 "joins" (none) pc x
theorem s_54_0 : S54 0 (ia_k 1 0) := sa_n (snd_iconst dX0_joins_0 rfl (okI_c rfl) rfl) on_k
theorem s_54_1 : S54 1 (ia_is 2 1) := sa_n (snd_istore_n dX0_joins_1 rfl (lt_c rfl) rfl) on_is
theorem s_54_2 : S54 2 (ia_keep [0, 1] (ia_il 3 1)) := sa_nk (snd_iload_n dX0_joins_2 rfl rfl) on_il
theorem s_54_3 : S54 3 (ia_k 5 16) := sa_n (snd_bipush dX0_joins_3 (by decide) (okI_c rfl) rfl) on_k
theorem s_54_5 : S54 5 (ia_ic k2g 8 21) := sa_b (sndB_ic_ge dX0_joins_5 rfl rfl) on_ic
theorem s_54_8 : S54 8 (ia_al 9 0) := sa_n (snd_aload_n dX0_joins_8 rfl rfl) on_al
theorem s_54_9 : S54 9 (ia_gfR 12 1 21) := sa_n (snd_gfR ci_1 (k := 21) (lt_c rfl) dX0_joins_9 (Or.inl q903) (Or.inl rfl) (fun _ _ _ _ => rfl) rfl rfl) on_gfR
theorem s_54_12 : S54 12 (ia_il 13 1) := sa_n (snd_iload_n dX0_joins_12 rfl rfl) on_il
theorem s_54_13 : S54 13 (ia_il 14 1) := sa_n (snd_iload_n dX0_joins_13 rfl rfl) on_il
theorem s_54_14 : S54 14 (ia_stI 15) := sa_n (snd_iastore dX0_joins_14 rfl) on_stI
theorem s_54_15 : S54 15 (ia_inc 18 1 1) := sa_n (snd_iinc dX0_joins_15 rfl (lt_c rfl) rfl) on_inc
theorem s_54_18 : S54 18 (ia_go 2) := sa_n (snd_goto dX0_joins_18 rfl) on_go
theorem s_54_21 : S54 21 (ia_k 22 0) := sa_n (snd_iconst dX0_joins_21 rfl (okI_c rfl) rfl) on_k
theorem s_54_22 : S54 22 (ia_is 23 1) := sa_n (snd_istore_n dX0_joins_22 rfl (lt_c rfl) rfl) on_is
theorem s_54_23 : S54 23 (ia_keep [0, 1] (ia_il 24 1)) := sa_nk (snd_iload_n dX0_joins_23 rfl rfl) on_il
theorem s_54_24 : S54 24 (ia_al 25 0) := sa_n (snd_aload_n dX0_joins_24 rfl rfl) on_al
theorem s_54_25 : S54 25 (ia_gfR 28 1 4) := sa_n (snd_gfR ci_1 (k := 4) (lt_c rfl) dX0_joins_25 (Or.inl q883) (Or.inl rfl) (fun _ _ _ _ => rfl) rfl rfl) on_gfR
theorem s_54_28 : S54 28 (ia_gfR 31 3 5) := sa_n (snd_gfR ci_3 (k := 5) (lt_c rfl) dX0_joins_28 (Or.inr ⟨_, q207⟩) (Or.inl rfl) (fun _ _ _ _ => rfl) rfl rfl) on_gfR
theorem s_54_31 : S54 31 (ia_call 34 1 16 254 1) := sk_V me_254 q353 dX0_joins_31 rfl
theorem s_54_34 : S54 34 (ia_ic k2g 37 113) := sa_b (sndB_ic_ge dX0_joins_34 rfl rfl) on_ic
theorem s_54_37 : S54 37 (ia_al 38 0) := sa_n (snd_aload_n dX0_joins_37 rfl rfl) on_al
theorem s_54_38 : S54 38 (ia_gfR 41 1 4) := sa_n (snd_gfR ci_1 (k := 4) (lt_c rfl) dX0_joins_38 (Or.inl q883) (Or.inl rfl) (fun _ _ _ _ => rfl) rfl rfl) on_gfR
theorem s_54_41 : S54 41 (ia_gfR 44 3 5) := sa_n (snd_gfR ci_3 (k := 5) (lt_c rfl) dX0_joins_41 (Or.inr ⟨_, q207⟩) (Or.inl rfl) (fun _ _ _ _ => rfl) rfl rfl) on_gfR
theorem s_54_44 : S54 44 (ia_il 45 1) := sa_n (snd_iload_n dX0_joins_44 rfl rfl) on_il
theorem s_54_45 : S54 45 (ia_call 48 2 16 258 2) := sk_V me_258 q415 dX0_joins_45 rfl
theorem s_54_48 : S54 48 (ia_cast 51 [7]) := sa_n (snd_cast cs_Entry q357 dX0_joins_48 rfl) on_cast
theorem s_54_51 : S54 51 (ia_as 52 2) := sa_n (snd_astore_n dX0_joins_51 rfl (lt_c rfl) rfl) on_as
theorem s_54_52 : S54 52 (ia_al 53 0) := sa_n (snd_aload_n dX0_joins_52 rfl rfl) on_al
theorem s_54_53 : S54 53 (ia_gfR 56 1 4) := sa_n (snd_gfR ci_1 (k := 4) (lt_c rfl) dX0_joins_53 (Or.inl q883) (Or.inl rfl) (fun _ _ _ _ => rfl) rfl rfl) on_gfR
theorem s_54_56 : S54 56 (ia_gfR 59 3 4) := sa_n (snd_gfR ci_3 (k := 4) (lt_c rfl) dX0_joins_56 (Or.inr ⟨_, q202⟩) (Or.inl rfl) (fun _ _ _ _ => rfl) rfl rfl) on_gfR
theorem s_54_59 : S54 59 (ia_il 60 1) := sa_n (snd_iload_n dX0_joins_59 rfl rfl) on_il
theorem s_54_60 : S54 60 (ia_ldI 61 101) := sa_n (snd_zaload dX0_joins_60 rfl) on_ldI
theorem s_54_61 : S54 61 (ia_if k0e 64 107) := sa_b (sndB_if_eq dX0_joins_61 rfl rfl) on_if
theorem s_54_64 : S54 64 (ia_al 65 0) := sa_n (snd_aload_n dX0_joins_64 rfl rfl) on_al
theorem s_54_65 : S54 65 (ia_gfR 68 1 4) := sa_n (snd_gfR ci_1 (k := 4) (lt_c rfl) dX0_joins_65 (Or.inl q883) (Or.inl rfl) (fun _ _ _ _ => rfl) rfl rfl) on_gfR
theorem s_54_68 : S54 68 (ia_gfR 71 3 0) := sa_n (snd_gfR ci_3 (k := 0) (lt_c rfl) dX0_joins_68 (Or.inr ⟨_, q188⟩) (Or.inl rfl) (fun _ _ _ _ => rfl) rfl rfl) on_gfR
theorem s_54_71 : S54 71 (ia_al 72 2) := sa_n (snd_aload_n dX0_joins_71 rfl rfl) on_al
theorem s_54_72 : S54 72 (ia_gfI 75 7 1) := sa_n (snd_gfI ci_7 (k := 1) (lt_c rfl) dX0_joins_72 (Or.inr ⟨_, q371⟩) (Or.inl rfl) (fun _ _ _ _ => rfl) rfl rfl) on_gfI
theorem s_54_75 : S54 75 (ia_ldI 76 100) := sa_n (snd_iaload dX0_joins_75 rfl) on_ldI
theorem s_54_76 : S54 76 (ia_k 77 (-1)) := sa_n (snd_iconst dX0_joins_76 rfl (okI_c rfl) rfl) on_k
theorem s_54_77 : S54 77 (ia_ic k2e 80 107) := sa_b (sndB_ic_eq dX0_joins_77 rfl rfl) on_ic
theorem s_54_80 : S54 80 (ia_al 81 0) := sa_n (snd_aload_n dX0_joins_80 rfl rfl) on_al
theorem s_54_81 : S54 81 (ia_al 82 0) := sa_n (snd_aload_n dX0_joins_81 rfl rfl) on_al
theorem s_54_82 : S54 82 (ia_gfR 85 1 4) := sa_n (snd_gfR ci_1 (k := 4) (lt_c rfl) dX0_joins_82 (Or.inl q883) (Or.inl rfl) (fun _ _ _ _ => rfl) rfl rfl) on_gfR
theorem s_54_85 : S54 85 (ia_al 86 2) := sa_n (snd_aload_n dX0_joins_85 rfl rfl) on_al
theorem s_54_86 : S54 86 (ia_call 89 2 3 86 2) := sk_V me_86 q429 dX0_joins_86 rfl
theorem s_54_89 : S54 89 (ia_k 91 12) := sa_n (snd_bipush dX0_joins_89 (by decide) (okI_c rfl) rfl) on_k
theorem s_54_91 : S54 91 (ia_al 92 0) := sa_n (snd_aload_n dX0_joins_91 rfl rfl) on_al
theorem s_54_92 : S54 92 (ia_gfR 95 1 4) := sa_n (snd_gfR ci_1 (k := 4) (lt_c rfl) dX0_joins_92 (Or.inl q883) (Or.inl rfl) (fun _ _ _ _ => rfl) rfl rfl) on_gfR
theorem s_54_95 : S54 95 (ia_gfR 98 3 0) := sa_n (snd_gfR ci_3 (k := 0) (lt_c rfl) dX0_joins_95 (Or.inr ⟨_, q188⟩) (Or.inl rfl) (fun _ _ _ _ => rfl) rfl rfl) on_gfR
theorem s_54_98 : S54 98 (ia_al 99 2) := sa_n (snd_aload_n dX0_joins_98 rfl rfl) on_al
theorem s_54_99 : S54 99 (ia_gfI 102 7 1) := sa_n (snd_gfI ci_7 (k := 1) (lt_c rfl) dX0_joins_99 (Or.inr ⟨_, q371⟩) (Or.inl rfl) (fun _ _ _ _ => rfl) rfl rfl) on_gfI
theorem s_54_102 : S54 102 (ia_ldI 103 100) := sa_n (snd_iaload dX0_joins_102 rfl) on_ldI
theorem s_54_103 : S54 103 (ia_add 104) := sa_n (snd_iadd dX0_joins_103 rfl) on_add
theorem s_54_104 : S54 104 (ia_call 107 3 1 55 6) := sk_V me_55 q1163 dX0_joins_104 rfl
theorem s_54_107 : S54 107 (ia_inc 110 1 1) := sa_n (snd_iinc dX0_joins_107 rfl (lt_c rfl) rfl) on_inc
theorem s_54_110 : S54 110 (ia_go 23) := sa_n (snd_goto dX0_joins_110 rfl) on_go
theorem s_54_113 : S54 113 (ia_k 114 0) := sa_n (snd_iconst dX0_joins_113 rfl (okI_c rfl) rfl) on_k
theorem s_54_114 : S54 114 (ia_is 115 1) := sa_n (snd_istore_n dX0_joins_114 rfl (lt_c rfl) rfl) on_is
theorem s_54_115 : S54 115 (ia_keep [0, 1] (ia_il 116 1)) := sa_nk (snd_iload_n dX0_joins_115 rfl rfl) on_il
theorem s_54_116 : S54 116 (ia_al 117 0) := sa_n (snd_aload_n dX0_joins_116 rfl rfl) on_al
theorem s_54_117 : S54 117 (ia_gfR 120 1 4) := sa_n (snd_gfR ci_1 (k := 4) (lt_c rfl) dX0_joins_117 (Or.inl q883) (Or.inl rfl) (fun _ _ _ _ => rfl) rfl rfl) on_gfR
theorem s_54_120 : S54 120 (ia_gfI 123 3 6) := sa_n (snd_gfI ci_3 (k := 6) (lt_c rfl) dX0_joins_120 (Or.inr ⟨_, q211⟩) (Or.inl rfl) (fun _ _ _ _ => rfl) rfl rfl) on_gfI
theorem s_54_123 : S54 123 (ia_ic k2g 126 166) := sa_b (sndB_ic_ge dX0_joins_123 rfl rfl) on_ic
theorem s_54_126 : S54 126 (ia_al 127 0) := sa_n (snd_aload_n dX0_joins_126 rfl rfl) on_al
theorem s_54_127 : S54 127 (ia_k 129 12) := sa_n (snd_bipush dX0_joins_127 (by decide) (okI_c rfl) rfl) on_k
theorem s_54_129 : S54 129 (ia_al 130 0) := sa_n (snd_aload_n dX0_joins_129 rfl rfl) on_al
theorem s_54_130 : S54 130 (ia_gfR 133 1 4) := sa_n (snd_gfR ci_1 (k := 4) (lt_c rfl) dX0_joins_130 (Or.inl q883) (Or.inl rfl) (fun _ _ _ _ => rfl) rfl rfl) on_gfR
theorem s_54_133 : S54 133 (ia_gfR 136 3 2) := sa_n (snd_gfR ci_3 (k := 2) (lt_c rfl) dX0_joins_133 (Or.inr ⟨_, q196⟩) (Or.inl rfl) (fun _ _ _ _ => rfl) rfl rfl) on_gfR
theorem s_54_136 : S54 136 (ia_k 137 2) := sa_n (snd_iconst dX0_joins_136 rfl (okI_c rfl) rfl) on_k
theorem s_54_137 : S54 137 (ia_il 138 1) := sa_n (snd_iload_n dX0_joins_137 rfl rfl) on_il
theorem s_54_138 : S54 138 (ia_mul 139) := sa_n (snd_imul dX0_joins_138 rfl) on_mul
theorem s_54_139 : S54 139 (ia_ldI 140 100) := sa_n (snd_iaload dX0_joins_139 rfl) on_ldI
theorem s_54_140 : S54 140 (ia_add 141) := sa_n (snd_iadd dX0_joins_140 rfl) on_add
theorem s_54_141 : S54 141 (ia_k 143 12) := sa_n (snd_bipush dX0_joins_141 (by decide) (okI_c rfl) rfl) on_k
theorem s_54_143 : S54 143 (ia_al 144 0) := sa_n (snd_aload_n dX0_joins_143 rfl rfl) on_al
theorem s_54_144 : S54 144 (ia_gfR 147 1 4) := sa_n (snd_gfR ci_1 (k := 4) (lt_c rfl) dX0_joins_144 (Or.inl q883) (Or.inl rfl) (fun _ _ _ _ => rfl) rfl rfl) on_gfR
theorem s_54_147 : S54 147 (ia_gfR 150 3 2) := sa_n (snd_gfR ci_3 (k := 2) (lt_c rfl) dX0_joins_147 (Or.inr ⟨_, q196⟩) (Or.inl rfl) (fun _ _ _ _ => rfl) rfl rfl) on_gfR
theorem s_54_150 : S54 150 (ia_k 151 2) := sa_n (snd_iconst dX0_joins_150 rfl (okI_c rfl) rfl) on_k
theorem s_54_151 : S54 151 (ia_il 152 1) := sa_n (snd_iload_n dX0_joins_151 rfl rfl) on_il
theorem s_54_152 : S54 152 (ia_mul 153) := sa_n (snd_imul dX0_joins_152 rfl) on_mul
theorem s_54_153 : S54 153 (ia_k 154 1) := sa_n (snd_iconst dX0_joins_153 rfl (okI_c rfl) rfl) on_k
theorem s_54_154 : S54 154 (ia_add 155) := sa_n (snd_iadd dX0_joins_154 rfl) on_add
theorem s_54_155 : S54 155 (ia_ldI 156 100) := sa_n (snd_iaload dX0_joins_155 rfl) on_ldI
theorem s_54_156 : S54 156 (ia_add 157) := sa_n (snd_iadd dX0_joins_156 rfl) on_add
theorem s_54_157 : S54 157 (ia_call 160 3 1 55 6) := sk_V me_55 q1163 dX0_joins_157 rfl
theorem s_54_160 : S54 160 (ia_inc 163 1 1) := sa_n (snd_iinc dX0_joins_160 rfl (lt_c rfl) rfl) on_inc
theorem s_54_163 : S54 163 (ia_go 115) := sa_n (snd_goto dX0_joins_163 rfl) on_go
theorem s_54_166 : S54 166 (ia_k 167 0) := sa_n (snd_iconst dX0_joins_166 rfl (okI_c rfl) rfl) on_k
theorem s_54_167 : S54 167 (ia_is 168 1) := sa_n (snd_istore_n dX0_joins_167 rfl (lt_c rfl) rfl) on_is
theorem s_54_168 : S54 168 (ia_keep [0, 1] (ia_il 169 1)) := sa_nk (snd_iload_n dX0_joins_168 rfl rfl) on_il
theorem s_54_169 : S54 169 (ia_k 171 6) := sa_n (snd_bipush dX0_joins_169 (by decide) (okI_c rfl) rfl) on_k
theorem s_54_171 : S54 171 (ia_ic k2g 174 202) := sa_b (sndB_ic_ge dX0_joins_171 rfl rfl) on_ic
theorem s_54_174 : S54 174 (ia_al 175 0) := sa_n (snd_aload_n dX0_joins_174 rfl rfl) on_al
theorem s_54_175 : S54 175 (ia_gfR 178 1 4) := sa_n (snd_gfR ci_1 (k := 4) (lt_c rfl) dX0_joins_175 (Or.inl q883) (Or.inl rfl) (fun _ _ _ _ => rfl) rfl rfl) on_gfR
theorem s_54_178 : S54 178 (ia_gfR 181 3 1) := sa_n (snd_gfR ci_3 (k := 1) (lt_c rfl) dX0_joins_178 (Or.inr ⟨_, q192⟩) (Or.inl rfl) (fun _ _ _ _ => rfl) rfl rfl) on_gfR
theorem s_54_181 : S54 181 (ia_il 182 1) := sa_n (snd_iload_n dX0_joins_181 rfl rfl) on_il
theorem s_54_182 : S54 182 (ia_ldI 183 100) := sa_n (snd_iaload dX0_joins_182 rfl) on_ldI
theorem s_54_183 : S54 183 (ia_k 184 (-1)) := sa_n (snd_iconst dX0_joins_183 rfl (okI_c rfl) rfl) on_k
theorem s_54_184 : S54 184 (ia_ic k2e 187 196) := sa_b (sndB_ic_eq dX0_joins_184 rfl rfl) on_ic
theorem s_54_187 : S54 187 (ia_al 188 0) := sa_n (snd_aload_n dX0_joins_187 rfl rfl) on_al
theorem s_54_188 : S54 188 (ia_il 189 1) := sa_n (snd_iload_n dX0_joins_188 rfl rfl) on_il
theorem s_54_189 : S54 189 (ia_k 191 6) := sa_n (snd_bipush dX0_joins_189 (by decide) (okI_c rfl) rfl) on_k
theorem s_54_191 : S54 191 (ia_il 192 1) := sa_n (snd_iload_n dX0_joins_191 rfl rfl) on_il
theorem s_54_192 : S54 192 (ia_add 193) := sa_n (snd_iadd dX0_joins_192 rfl) on_add
theorem s_54_193 : S54 193 (ia_call 196 3 1 55 6) := sk_V me_55 q1163 dX0_joins_193 rfl
theorem s_54_196 : S54 196 (ia_inc 199 1 1) := sa_n (snd_iinc dX0_joins_196 rfl (lt_c rfl) rfl) on_inc
theorem s_54_199 : S54 199 (ia_go 168) := sa_n (snd_goto dX0_joins_199 rfl) on_go
theorem s_54_202 : S54 202 (ia_ret0) := sa_t (st_ret0 dX0_joins_202 rfl) on_ret0
theorem sa_54_0 (pc : Nat) : S54 pc (cd_54_0 pc) := sa_c (sa_c (sa_c (sa_c (sa_c (sa_l s_54_0) (sa_c (sa_l s_54_1) (sa_l s_54_2))) (sa_c (sa_l s_54_3) (sa_c (sa_l s_54_5) (sa_l s_54_8)))) (sa_c (sa_c (sa_l s_54_9) (sa_c (sa_l s_54_12) (sa_l s_54_13))) (sa_c (sa_c (sa_l s_54_14) (sa_l s_54_15)) (sa_c (sa_l s_54_18) (sa_l s_54_21))))) (sa_c (sa_c (sa_c (sa_l s_54_22) (sa_c (sa_l s_54_23) (sa_l s_54_24))) (sa_c (sa_c (sa_l s_54_25) (sa_l s_54_28)) (sa_c (sa_l s_54_31) (sa_l s_54_34)))) (sa_c (sa_c (sa_l s_54_37) (sa_c (sa_l s_54_38) (sa_l s_54_41))) (sa_c (sa_c (sa_l s_54_44) (sa_l s_54_45)) (sa_c (sa_l s_54_48) (sa_l s_54_51)))))) (sa_c (sa_c (sa_c (sa_c (sa_l s_54_52) (sa_c (sa_l s_54_53) (sa_l s_54_56))) (sa_c (sa_c (sa_l s_54_59) (sa_l s_54_60)) (sa_c (sa_l s_54_61) (sa_l s_54_64)))) (sa_c (sa_c (sa_l s_54_65) (sa_c (sa_l s_54_68) (sa_l s_54_71))) (sa_c (sa_c (sa_l s_54_72) (sa_l s_54_75)) (sa_c (sa_l s_54_76) (sa_l s_54_77))))) (sa_c (sa_c (sa_c (sa_l s_54_80) (sa_c (sa_l s_54_81) (sa_l s_54_82))) (sa_c (sa_c (sa_l s_54_85) (sa_l s_54_86)) (sa_c (sa_l s_54_89) (sa_l s_54_91)))) (sa_c (sa_c (sa_l s_54_92) (sa_c (sa_l s_54_95) (sa_l s_54_98))) (sa_c (sa_c (sa_l s_54_99) (sa_l s_54_102)) (sa_c (sa_l s_54_103) (sa_l s_54_104))))))
theorem sa_54_1 (pc : Nat) : S54 pc (cd_54_1 pc) := sa_c (sa_c (sa_c (sa_c (sa_c (sa_l s_54_107) (sa_c (sa_l s_54_110) (sa_l s_54_113))) (sa_c (sa_l s_54_114) (sa_c (sa_l s_54_115) (sa_l s_54_116)))) (sa_c (sa_c (sa_l s_54_117) (sa_c (sa_l s_54_120) (sa_l s_54_123))) (sa_c (sa_c (sa_l s_54_126) (sa_l s_54_127)) (sa_c (sa_l s_54_129) (sa_l s_54_130))))) (sa_c (sa_c (sa_c (sa_l s_54_133) (sa_c (sa_l s_54_136) (sa_l s_54_137))) (sa_c (sa_c (sa_l s_54_138) (sa_l s_54_139)) (sa_c (sa_l s_54_140) (sa_l s_54_141)))) (sa_c (sa_c (sa_l s_54_143) (sa_c (sa_l s_54_144) (sa_l s_54_147))) (sa_c (sa_c (sa_l s_54_150) (sa_l s_54_151)) (sa_c (sa_l s_54_152) (sa_l s_54_153)))))) (sa_c (sa_c (sa_c (sa_c (sa_l s_54_154) (sa_c (sa_l s_54_155) (sa_l s_54_156))) (sa_c (sa_l s_54_157) (sa_c (sa_l s_54_160) (sa_l s_54_163)))) (sa_c (sa_c (sa_l s_54_166) (sa_c (sa_l s_54_167) (sa_l s_54_168))) (sa_c (sa_c (sa_l s_54_169) (sa_l s_54_171)) (sa_c (sa_l s_54_174) (sa_l s_54_175))))) (sa_c (sa_c (sa_c (sa_l s_54_178) (sa_c (sa_l s_54_181) (sa_l s_54_182))) (sa_c (sa_c (sa_l s_54_183) (sa_l s_54_184)) (sa_c (sa_l s_54_187) (sa_l s_54_188)))) (sa_c (sa_c (sa_l s_54_189) (sa_c (sa_l s_54_191) (sa_l s_54_192))) (sa_c (sa_c (sa_l s_54_193) (sa_l s_54_196)) (sa_c (sa_l s_54_199) (sa_l s_54_202))))))
theorem sa_54 (pc : Nat) : S54 pc (cd_54 pc) := sa_c (sa_54_0 pc) (sa_54_1 pc)
abbrev S55 (pc : Nat) (x : XI) : Prop := SA "WeekFoot" cX0_joins_2 6 "joins" (none) pc x
theorem s_55_0 : S55 0 (ia_al 1 0) := sa_n (snd_aload_n dX0_joins_2_0 rfl rfl) on_al
theorem s_55_1 : S55 1 (ia_gfR 4 1 21) := sa_n (snd_gfR ci_1 (k := 21) (lt_c rfl) dX0_joins_2_1 (Or.inl q903) (Or.inl rfl) (fun _ _ _ _ => rfl) rfl rfl) on_gfR
theorem s_55_4 : S55 4 (ia_il 5 1) := sa_n (snd_iload_n dX0_joins_2_4 rfl rfl) on_il
theorem s_55_5 : S55 5 (ia_ldI 6 100) := sa_n (snd_iaload dX0_joins_2_5 rfl) on_ldI
theorem s_55_6 : S55 6 (ia_al 7 0) := sa_n (snd_aload_n dX0_joins_2_6 rfl rfl) on_al
theorem s_55_7 : S55 7 (ia_gfR 10 1 21) := sa_n (snd_gfR ci_1 (k := 21) (lt_c rfl) dX0_joins_2_7 (Or.inl q903) (Or.inl rfl) (fun _ _ _ _ => rfl) rfl rfl) on_gfR
theorem s_55_10 : S55 10 (ia_il 11 2) := sa_n (snd_iload_n dX0_joins_2_10 rfl rfl) on_il
theorem s_55_11 : S55 11 (ia_ldI 12 100) := sa_n (snd_iaload dX0_joins_2_11 rfl) on_ldI
theorem s_55_12 : S55 12 (ia_stat 15 2 262 2) := sk_S me_262 q1074 dX0_joins_2_12 rfl
theorem s_55_15 : S55 15 (ia_is 16 3) := sa_n (snd_istore_n dX0_joins_2_15 rfl (lt_c rfl) rfl) on_is
theorem s_55_16 : S55 16 (ia_al 17 0) := sa_n (snd_aload_n dX0_joins_2_16 rfl rfl) on_al
theorem s_55_17 : S55 17 (ia_gfR 20 1 21) := sa_n (snd_gfR ci_1 (k := 21) (lt_c rfl) dX0_joins_2_17 (Or.inl q903) (Or.inl rfl) (fun _ _ _ _ => rfl) rfl rfl) on_gfR
theorem s_55_20 : S55 20 (ia_il 21 1) := sa_n (snd_iload_n dX0_joins_2_20 rfl rfl) on_il
theorem s_55_21 : S55 21 (ia_ldI 22 100) := sa_n (snd_iaload dX0_joins_2_21 rfl) on_ldI
theorem s_55_22 : S55 22 (ia_al 23 0) := sa_n (snd_aload_n dX0_joins_2_22 rfl rfl) on_al
theorem s_55_23 : S55 23 (ia_gfR 26 1 21) := sa_n (snd_gfR ci_1 (k := 21) (lt_c rfl) dX0_joins_2_23 (Or.inl q903) (Or.inl rfl) (fun _ _ _ _ => rfl) rfl rfl) on_gfR
theorem s_55_26 : S55 26 (ia_il 27 2) := sa_n (snd_iload_n dX0_joins_2_26 rfl rfl) on_il
theorem s_55_27 : S55 27 (ia_ldI 28 100) := sa_n (snd_iaload dX0_joins_2_27 rfl) on_ldI
theorem s_55_28 : S55 28 (ia_stat 31 2 261 2) := sk_S me_261 q1167 dX0_joins_2_28 rfl
theorem s_55_31 : S55 31 (ia_is 33 4) := sa_n (snd_istore dX0_joins_2_31 (lt_c rfl) rfl) on_is
theorem s_55_33 : S55 33 (ia_k 34 0) := sa_n (snd_iconst dX0_joins_2_33 rfl (okI_c rfl) rfl) on_k
theorem s_55_34 : S55 34 (ia_is 36 5) := sa_n (snd_istore dX0_joins_2_34 (lt_c rfl) rfl) on_is
theorem s_55_36 : S55 36 (ia_keep [0, 3, 4, 5] (ia_il 38 5)) := sa_nk (snd_iload dX0_joins_2_36 rfl) on_il
theorem s_55_38 : S55 38 (ia_k 40 16) := sa_n (snd_bipush dX0_joins_2_38 (by decide) (okI_c rfl) rfl) on_k
theorem s_55_40 : S55 40 (ia_ic k2g 43 69) := sa_b (sndB_ic_ge dX0_joins_2_40 rfl rfl) on_ic
theorem s_55_43 : S55 43 (ia_al 44 0) := sa_n (snd_aload_n dX0_joins_2_43 rfl rfl) on_al
theorem s_55_44 : S55 44 (ia_gfR 47 1 21) := sa_n (snd_gfR ci_1 (k := 21) (lt_c rfl) dX0_joins_2_44 (Or.inl q903) (Or.inl rfl) (fun _ _ _ _ => rfl) rfl rfl) on_gfR
theorem s_55_47 : S55 47 (ia_il 49 5) := sa_n (snd_iload dX0_joins_2_47 rfl) on_il
theorem s_55_49 : S55 49 (ia_ldI 50 100) := sa_n (snd_iaload dX0_joins_2_49 rfl) on_ldI
theorem s_55_50 : S55 50 (ia_il 52 4) := sa_n (snd_iload dX0_joins_2_50 rfl) on_il
theorem s_55_52 : S55 52 (ia_ic k2n 55 63) := sa_b (sndB_ic_ne dX0_joins_2_52 rfl rfl) on_ic
theorem s_55_55 : S55 55 (ia_al 56 0) := sa_n (snd_aload_n dX0_joins_2_55 rfl rfl) on_al
theorem s_55_56 : S55 56 (ia_gfR 59 1 21) := sa_n (snd_gfR ci_1 (k := 21) (lt_c rfl) dX0_joins_2_56 (Or.inl q903) (Or.inl rfl) (fun _ _ _ _ => rfl) rfl rfl) on_gfR
theorem s_55_59 : S55 59 (ia_il 61 5) := sa_n (snd_iload dX0_joins_2_59 rfl) on_il
theorem s_55_61 : S55 61 (ia_il 62 3) := sa_n (snd_iload_n dX0_joins_2_61 rfl rfl) on_il
theorem s_55_62 : S55 62 (ia_stI 63) := sa_n (snd_iastore dX0_joins_2_62 rfl) on_stI
theorem s_55_63 : S55 63 (ia_inc 66 5 1) := sa_n (snd_iinc dX0_joins_2_63 rfl (lt_c rfl) rfl) on_inc
theorem s_55_66 : S55 66 (ia_go 36) := sa_n (snd_goto dX0_joins_2_66 rfl) on_go
theorem s_55_69 : S55 69 (ia_ret0) := sa_t (st_ret0 dX0_joins_2_69 rfl) on_ret0
theorem sa_55 (pc : Nat) : S55 pc (cd_55 pc) := sa_c (sa_c (sa_c (sa_c (sa_c (sa_l s_55_0) (sa_l s_55_1)) (sa_c (sa_l s_55_4) (sa_l s_55_5))) (sa_c (sa_c (sa_l s_55_6) (sa_l s_55_7)) (sa_c (sa_l s_55_10) (sa_c (sa_l s_55_11) (sa_l s_55_12))))) (sa_c (sa_c (sa_c (sa_l s_55_15) (sa_l s_55_16)) (sa_c (sa_l s_55_17) (sa_c (sa_l s_55_20) (sa_l s_55_21)))) (sa_c (sa_c (sa_l s_55_22) (sa_l s_55_23)) (sa_c (sa_l s_55_26) (sa_c (sa_l s_55_27) (sa_l s_55_28)))))) (sa_c (sa_c (sa_c (sa_c (sa_l s_55_31) (sa_l s_55_33)) (sa_c (sa_l s_55_34) (sa_c (sa_l s_55_36) (sa_l s_55_38)))) (sa_c (sa_c (sa_l s_55_40) (sa_l s_55_43)) (sa_c (sa_l s_55_44) (sa_c (sa_l s_55_47) (sa_l s_55_49))))) (sa_c (sa_c (sa_c (sa_l s_55_50) (sa_l s_55_52)) (sa_c (sa_l s_55_55) (sa_c (sa_l s_55_56) (sa_l s_55_59)))) (sa_c (sa_c (sa_l s_55_61) (sa_l s_55_62)) (sa_c (sa_l s_55_63) (sa_c (sa_l s_55_66) (sa_l s_55_69))))))
abbrev S56 (pc : Nat) (x : XI) : Prop := SA "WeekFoot" cX0_groups 7 "groups" (some .int) pc x
theorem s_56_0 : S56 0 (ia_il 1 1) := sa_n (snd_iload_n dX0_groups_0 rfl rfl) on_il
theorem s_56_1 : S56 1 (ia_k 2 0) := sa_n (snd_iconst dX0_groups_1 rfl (okI_c rfl) rfl) on_k
theorem s_56_2 : S56 2 (ia_k 3 2) := sa_n (snd_iconst dX0_groups_2 rfl (okI_c rfl) rfl) on_k
theorem s_56_3 : S56 3 (ia_stat 6 3 2 3) := sk_S me_2 q138 dX0_groups_3 rfl
theorem s_56_6 : S56 6 (ia_if k0n 9 11) := sa_b (sndB_if_ne dX0_groups_6 rfl rfl) on_if
theorem s_56_9 : S56 9 (ia_k 10 (-1)) := sa_n (snd_iconst dX0_groups_9 rfl (okI_c rfl) rfl) on_k
theorem s_56_10 : S56 10 (ia_retI) := sa_t (st_retI dX0_groups_10 rfl) on_retI
theorem s_56_11 : S56 11 (ia_al 12 0) := sa_n (snd_aload_n dX0_groups_11 rfl rfl) on_al
theorem s_56_12 : S56 12 (ia_call 15 1 1 54 3) := sk_V me_54 q1159 dX0_groups_12 rfl
theorem s_56_15 : S56 15 (ia_k 16 0) := sa_n (snd_iconst dX0_groups_15 rfl (okI_c rfl) rfl) on_k
theorem s_56_16 : S56 16 (ia_is 17 2) := sa_n (snd_istore_n dX0_groups_16 rfl (lt_c rfl) rfl) on_is
theorem s_56_17 : S56 17 (ia_k 18 0) := sa_n (snd_iconst dX0_groups_17 rfl (okI_c rfl) rfl) on_k
theorem s_56_18 : S56 18 (ia_is 19 3) := sa_n (snd_istore_n dX0_groups_18 rfl (lt_c rfl) rfl) on_is
theorem s_56_19 : S56 19 (ia_k 20 0) := sa_n (snd_iconst dX0_groups_19 rfl (okI_c rfl) rfl) on_k
theorem s_56_20 : S56 20 (ia_is 22 4) := sa_n (snd_istore dX0_groups_20 (lt_c rfl) rfl) on_is
theorem s_56_22 : S56 22 (ia_keep [0, 1, 2, 3, 4] (ia_il 24 4)) := sa_nk (snd_iload dX0_groups_22 rfl) on_il
theorem s_56_24 : S56 24 (ia_k 26 16) := sa_n (snd_bipush dX0_groups_24 (by decide) (okI_c rfl) rfl) on_k
theorem s_56_26 : S56 26 (ia_ic k2g 29 105) := sa_b (sndB_ic_ge dX0_groups_26 rfl rfl) on_ic
theorem s_56_29 : S56 29 (ia_k 30 0) := sa_n (snd_iconst dX0_groups_29 rfl (okI_c rfl) rfl) on_k
theorem s_56_30 : S56 30 (ia_is 32 5) := sa_n (snd_istore dX0_groups_30 (lt_c rfl) rfl) on_is
theorem s_56_32 : S56 32 (ia_k 33 0) := sa_n (snd_iconst dX0_groups_32 rfl (okI_c rfl) rfl) on_k
theorem s_56_33 : S56 33 (ia_is 35 6) := sa_n (snd_istore dX0_groups_33 (lt_c rfl) rfl) on_is
theorem s_56_35 : S56 35 (ia_keep [0, 1, 2, 3, 4, 5, 6] (ia_il 37 6)) := sa_nk (snd_iload dX0_groups_35 rfl) on_il
theorem s_56_37 : S56 37 (ia_k 39 16) := sa_n (snd_bipush dX0_groups_37 (by decide) (okI_c rfl) rfl) on_k
theorem s_56_39 : S56 39 (ia_ic k2g 42 79) := sa_b (sndB_ic_ge dX0_groups_39 rfl rfl) on_ic
theorem s_56_42 : S56 42 (ia_il 44 5) := sa_n (snd_iload dX0_groups_42 rfl) on_il
theorem s_56_44 : S56 44 (ia_al 45 0) := sa_n (snd_aload_n dX0_groups_44 rfl rfl) on_al
theorem s_56_45 : S56 45 (ia_il 47 6) := sa_n (snd_iload dX0_groups_45 rfl) on_il
theorem s_56_47 : S56 47 (ia_call 50 2 1 30 2) := sk_V me_30 q1045 dX0_groups_47 rfl
theorem s_56_50 : S56 50 (ia_if k0e 53 69) := sa_b (sndB_if_eq dX0_groups_50 rfl rfl) on_if
theorem s_56_53 : S56 53 (ia_al 54 0) := sa_n (snd_aload_n dX0_groups_53 rfl rfl) on_al
theorem s_56_54 : S56 54 (ia_gfR 57 1 21) := sa_n (snd_gfR ci_1 (k := 21) (lt_c rfl) dX0_groups_54 (Or.inl q903) (Or.inl rfl) (fun _ _ _ _ => rfl) rfl rfl) on_gfR
theorem s_56_57 : S56 57 (ia_il 59 6) := sa_n (snd_iload dX0_groups_57 rfl) on_il
theorem s_56_59 : S56 59 (ia_ldI 60 100) := sa_n (snd_iaload dX0_groups_59 rfl) on_ldI
theorem s_56_60 : S56 60 (ia_il 62 4) := sa_n (snd_iload dX0_groups_60 rfl) on_il
theorem s_56_62 : S56 62 (ia_ic k2n 65 69) := sa_b (sndB_ic_ne dX0_groups_62 rfl rfl) on_ic
theorem s_56_65 : S56 65 (ia_k 66 1) := sa_n (snd_iconst dX0_groups_65 rfl (okI_c rfl) rfl) on_k
theorem s_56_66 : S56 66 (ia_go 70) := sa_n (snd_goto dX0_groups_66 rfl) on_go
theorem s_56_69 : S56 69 (ia_k 70 0) := sa_n (snd_iconst dX0_groups_69 rfl (okI_c rfl) rfl) on_k
theorem s_56_70 : S56 70 (ia_add 71) := sa_n (snd_iadd dX0_groups_70 rfl) on_add
theorem s_56_71 : S56 71 (ia_is 73 5) := sa_n (snd_istore dX0_groups_71 (lt_c rfl) rfl) on_is
theorem s_56_73 : S56 73 (ia_inc 76 6 1) := sa_n (snd_iinc dX0_groups_73 rfl (lt_c rfl) rfl) on_inc
theorem s_56_76 : S56 76 (ia_go 35) := sa_n (snd_goto dX0_groups_76 rfl) on_go
theorem s_56_79 : S56 79 (ia_il 80 2) := sa_n (snd_iload_n dX0_groups_79 rfl rfl) on_il
theorem s_56_80 : S56 80 (ia_il 82 5) := sa_n (snd_iload dX0_groups_80 rfl) on_il
theorem s_56_82 : S56 82 (ia_if k0L 85 89) := sa_b (sndB_if_le dX0_groups_82 rfl rfl) on_if
theorem s_56_85 : S56 85 (ia_k 86 1) := sa_n (snd_iconst dX0_groups_85 rfl (okI_c rfl) rfl) on_k
theorem s_56_86 : S56 86 (ia_go 90) := sa_n (snd_goto dX0_groups_86 rfl) on_go
theorem s_56_89 : S56 89 (ia_k 90 0) := sa_n (snd_iconst dX0_groups_89 rfl (okI_c rfl) rfl) on_k
theorem s_56_90 : S56 90 (ia_add 91) := sa_n (snd_iadd dX0_groups_90 rfl) on_add
theorem s_56_91 : S56 91 (ia_is 92 2) := sa_n (snd_istore_n dX0_groups_91 rfl (lt_c rfl) rfl) on_is
theorem s_56_92 : S56 92 (ia_il 93 3) := sa_n (snd_iload_n dX0_groups_92 rfl rfl) on_il
theorem s_56_93 : S56 93 (ia_il 95 5) := sa_n (snd_iload dX0_groups_93 rfl) on_il
theorem s_56_95 : S56 95 (ia_stat 98 2 261 2) := sk_S me_261 q1167 dX0_groups_95 rfl
theorem s_56_98 : S56 98 (ia_is 99 3) := sa_n (snd_istore_n dX0_groups_98 rfl (lt_c rfl) rfl) on_is
theorem s_56_99 : S56 99 (ia_inc 102 4 1) := sa_n (snd_iinc dX0_groups_99 rfl (lt_c rfl) rfl) on_inc
theorem s_56_102 : S56 102 (ia_go 22) := sa_n (snd_goto dX0_groups_102 rfl) on_go
theorem s_56_105 : S56 105 (ia_il 106 1) := sa_n (snd_iload_n dX0_groups_105 rfl rfl) on_il
theorem s_56_106 : S56 106 (ia_if k0n 109 113) := sa_b (sndB_if_ne dX0_groups_106 rfl rfl) on_if
theorem s_56_109 : S56 109 (ia_il 110 2) := sa_n (snd_iload_n dX0_groups_109 rfl rfl) on_il
theorem s_56_110 : S56 110 (ia_go 125) := sa_n (snd_goto dX0_groups_110 rfl) on_go
theorem s_56_113 : S56 113 (ia_il 114 1) := sa_n (snd_iload_n dX0_groups_113 rfl rfl) on_il
theorem s_56_114 : S56 114 (ia_k 115 1) := sa_n (snd_iconst dX0_groups_114 rfl (okI_c rfl) rfl) on_k
theorem s_56_115 : S56 115 (ia_ic k2n 118 124) := sa_b (sndB_ic_ne dX0_groups_115 rfl rfl) on_ic
theorem s_56_118 : S56 118 (ia_il 119 2) := sa_n (snd_iload_n dX0_groups_118 rfl rfl) on_il
theorem s_56_119 : S56 119 (ia_k 120 1) := sa_n (snd_iconst dX0_groups_119 rfl (okI_c rfl) rfl) on_k
theorem s_56_120 : S56 120 (ia_sub 121) := sa_n (snd_isub dX0_groups_120 rfl) on_sub
theorem s_56_121 : S56 121 (ia_go 125) := sa_n (snd_goto dX0_groups_121 rfl) on_go
theorem s_56_124 : S56 124 (ia_il 125 3) := sa_n (snd_iload_n dX0_groups_124 rfl rfl) on_il
theorem s_56_125 : S56 125 (ia_retI) := sa_t (st_retI dX0_groups_125 rfl) on_retI
theorem sa_56_0 (pc : Nat) : S56 pc (cd_56_0 pc) := sa_c (sa_c (sa_c (sa_c (sa_c (sa_l s_56_0) (sa_l s_56_1)) (sa_c (sa_l s_56_2) (sa_l s_56_3))) (sa_c (sa_c (sa_l s_56_6) (sa_l s_56_9)) (sa_c (sa_l s_56_10) (sa_l s_56_11)))) (sa_c (sa_c (sa_c (sa_l s_56_12) (sa_l s_56_15)) (sa_c (sa_l s_56_16) (sa_l s_56_17))) (sa_c (sa_c (sa_l s_56_18) (sa_l s_56_19)) (sa_c (sa_l s_56_20) (sa_c (sa_l s_56_22) (sa_l s_56_24)))))) (sa_c (sa_c (sa_c (sa_c (sa_l s_56_26) (sa_l s_56_29)) (sa_c (sa_l s_56_30) (sa_l s_56_32))) (sa_c (sa_c (sa_l s_56_33) (sa_l s_56_35)) (sa_c (sa_l s_56_37) (sa_c (sa_l s_56_39) (sa_l s_56_42))))) (sa_c (sa_c (sa_c (sa_l s_56_44) (sa_l s_56_45)) (sa_c (sa_l s_56_47) (sa_l s_56_50))) (sa_c (sa_c (sa_l s_56_53) (sa_l s_56_54)) (sa_c (sa_l s_56_57) (sa_c (sa_l s_56_59) (sa_l s_56_60))))))
theorem sa_56_1 (pc : Nat) : S56 pc (cd_56_1 pc) := sa_c (sa_c (sa_c (sa_c (sa_c (sa_l s_56_62) (sa_l s_56_65)) (sa_c (sa_l s_56_66) (sa_l s_56_69))) (sa_c (sa_c (sa_l s_56_70) (sa_l s_56_71)) (sa_c (sa_l s_56_73) (sa_l s_56_76)))) (sa_c (sa_c (sa_c (sa_l s_56_79) (sa_l s_56_80)) (sa_c (sa_l s_56_82) (sa_l s_56_85))) (sa_c (sa_c (sa_l s_56_86) (sa_l s_56_89)) (sa_c (sa_l s_56_90) (sa_c (sa_l s_56_91) (sa_l s_56_92)))))) (sa_c (sa_c (sa_c (sa_c (sa_l s_56_93) (sa_l s_56_95)) (sa_c (sa_l s_56_98) (sa_l s_56_99))) (sa_c (sa_c (sa_l s_56_102) (sa_l s_56_105)) (sa_c (sa_l s_56_106) (sa_c (sa_l s_56_109) (sa_l s_56_110))))) (sa_c (sa_c (sa_c (sa_l s_56_113) (sa_l s_56_114)) (sa_c (sa_l s_56_115) (sa_l s_56_118))) (sa_c (sa_c (sa_l s_56_119) (sa_l s_56_120)) (sa_c (sa_l s_56_121) (sa_c (sa_l s_56_124) (sa_l s_56_125))))))
theorem sa_56 (pc : Nat) : S56 pc (cd_56 pc) := sa_c (sa_56_0 pc) (sa_56_1 pc)
abbrev S57 (pc : Nat) (x : XI) : Prop := SA "WeekFoot" cX0_core 3 "core" (some .int) pc x
theorem s_57_0 : S57 0 (ia_al 1 0) := sa_n (snd_aload_n dX0_core_0 rfl rfl) on_al
theorem s_57_1 : S57 1 (ia_gfR 4 1 11) := sa_n (snd_gfR ci_1 (k := 11) (lt_c rfl) dX0_core_1 (Or.inl q892) (Or.inl rfl) (fun _ _ _ _ => rfl) rfl rfl) on_gfR
theorem s_57_4 : S57 4 (ia_call 7 1 4 88 1) := sk_V me_88 q971 dX0_core_4 rfl
theorem s_57_7 : S57 7 (ia_if k0e 10 12) := sa_b (sndB_if_eq dX0_core_7 rfl rfl) on_if
theorem s_57_10 : S57 10 (ia_k 11 0) := sa_n (snd_iconst dX0_core_10 rfl (okI_c rfl) rfl) on_k
theorem s_57_11 : S57 11 (ia_retI) := sa_t (st_retI dX0_core_11 rfl) on_retI
theorem s_57_12 : S57 12 (ia_al 13 0) := sa_n (snd_aload_n dX0_core_12 rfl rfl) on_al
theorem s_57_13 : S57 13 (ia_k 14 0) := sa_n (snd_iconst dX0_core_13 rfl (okI_c rfl) rfl) on_k
theorem s_57_14 : S57 14 (ia_call 17 2 1 58 2) := sk_V me_58 q1176 dX0_core_14 rfl
theorem s_57_17 : S57 17 (ia_if k0n 20 22) := sa_b (sndB_if_ne dX0_core_17 rfl rfl) on_if
theorem s_57_20 : S57 20 (ia_k 21 (-1)) := sa_n (snd_iconst dX0_core_20 rfl (okI_c rfl) rfl) on_k
theorem s_57_21 : S57 21 (ia_retI) := sa_t (st_retI dX0_core_21 rfl) on_retI
theorem s_57_22 : S57 22 (ia_al 23 0) := sa_n (snd_aload_n dX0_core_22 rfl rfl) on_al
theorem s_57_23 : S57 23 (ia_call 26 1 1 28 3) := sk_V me_28 q1181 dX0_core_23 rfl
theorem s_57_26 : S57 26 (ia_is 27 1) := sa_n (snd_istore_n dX0_core_26 rfl (lt_c rfl) rfl) on_is
theorem s_57_27 : S57 27 (ia_k 28 0) := sa_n (snd_iconst dX0_core_27 rfl (okI_c rfl) rfl) on_k
theorem s_57_28 : S57 28 (ia_is 29 2) := sa_n (snd_istore_n dX0_core_28 rfl (lt_c rfl) rfl) on_is
theorem s_57_29 : S57 29 (ia_keep [0, 1, 2] (ia_il 30 2)) := sa_nk (snd_iload_n dX0_core_29 rfl rfl) on_il
theorem s_57_30 : S57 30 (ia_al 31 0) := sa_n (snd_aload_n dX0_core_30 rfl rfl) on_al
theorem s_57_31 : S57 31 (ia_gfR 34 1 4) := sa_n (snd_gfR ci_1 (k := 4) (lt_c rfl) dX0_core_31 (Or.inl q883) (Or.inl rfl) (fun _ _ _ _ => rfl) rfl rfl) on_gfR
theorem s_57_34 : S57 34 (ia_gfR 37 3 5) := sa_n (snd_gfR ci_3 (k := 5) (lt_c rfl) dX0_core_34 (Or.inr ⟨_, q207⟩) (Or.inl rfl) (fun _ _ _ _ => rfl) rfl rfl) on_gfR
theorem s_57_37 : S57 37 (ia_call 40 1 16 254 1) := sk_V me_254 q353 dX0_core_37 rfl
theorem s_57_40 : S57 40 (ia_ic k2g 43 80) := sa_b (sndB_ic_ge dX0_core_40 rfl rfl) on_ic
theorem s_57_43 : S57 43 (ia_il 44 1) := sa_n (snd_iload_n dX0_core_43 rfl rfl) on_il
theorem s_57_44 : S57 44 (ia_il 45 2) := sa_n (snd_iload_n dX0_core_44 rfl rfl) on_il
theorem s_57_45 : S57 45 (ia_bit bShr 46) := sa_n (snd_bShr dX0_core_45 rfl) on_bit
theorem s_57_46 : S57 46 (ia_k 47 1) := sa_n (snd_iconst dX0_core_46 rfl (okI_c rfl) rfl) on_k
theorem s_57_47 : S57 47 (ia_bit bAnd 48) := sa_n (snd_bAnd dX0_core_47 rfl) on_bit
theorem s_57_48 : S57 48 (ia_k 49 1) := sa_n (snd_iconst dX0_core_48 rfl (okI_c rfl) rfl) on_k
theorem s_57_49 : S57 49 (ia_ic k2n 52 74) := sa_b (sndB_ic_ne dX0_core_49 rfl rfl) on_ic
theorem s_57_52 : S57 52 (ia_al 53 0) := sa_n (snd_aload_n dX0_core_52 rfl rfl) on_al
theorem s_57_53 : S57 53 (ia_il 54 1) := sa_n (snd_iload_n dX0_core_53 rfl rfl) on_il
theorem s_57_54 : S57 54 (ia_k 55 1) := sa_n (snd_iconst dX0_core_54 rfl (okI_c rfl) rfl) on_k
theorem s_57_55 : S57 55 (ia_il 56 2) := sa_n (snd_iload_n dX0_core_55 rfl rfl) on_il
theorem s_57_56 : S57 56 (ia_bit bShl 57) := sa_n (snd_bShl dX0_core_56 rfl) on_bit
theorem s_57_57 : S57 57 (ia_k 58 (-1)) := sa_n (snd_iconst dX0_core_57 rfl (okI_c rfl) rfl) on_k
theorem s_57_58 : S57 58 (ia_bit bXor 59) := sa_n (snd_bXor dX0_core_58 rfl) on_bit
theorem s_57_59 : S57 59 (ia_bit bAnd 60) := sa_n (snd_bAnd dX0_core_59 rfl) on_bit
theorem s_57_60 : S57 60 (ia_call 63 2 1 58 2) := sk_V me_58 q1176 dX0_core_60 rfl
theorem s_57_63 : S57 63 (ia_if k0n 66 74) := sa_b (sndB_if_ne dX0_core_63 rfl rfl) on_if
theorem s_57_66 : S57 66 (ia_il 67 1) := sa_n (snd_iload_n dX0_core_66 rfl rfl) on_il
theorem s_57_67 : S57 67 (ia_k 68 1) := sa_n (snd_iconst dX0_core_67 rfl (okI_c rfl) rfl) on_k
theorem s_57_68 : S57 68 (ia_il 69 2) := sa_n (snd_iload_n dX0_core_68 rfl rfl) on_il
theorem s_57_69 : S57 69 (ia_bit bShl 70) := sa_n (snd_bShl dX0_core_69 rfl) on_bit
theorem s_57_70 : S57 70 (ia_k 71 (-1)) := sa_n (snd_iconst dX0_core_70 rfl (okI_c rfl) rfl) on_k
theorem s_57_71 : S57 71 (ia_bit bXor 72) := sa_n (snd_bXor dX0_core_71 rfl) on_bit
theorem s_57_72 : S57 72 (ia_bit bAnd 73) := sa_n (snd_bAnd dX0_core_72 rfl) on_bit
theorem s_57_73 : S57 73 (ia_is 74 1) := sa_n (snd_istore_n dX0_core_73 rfl (lt_c rfl) rfl) on_is
theorem s_57_74 : S57 74 (ia_inc 77 2 1) := sa_n (snd_iinc dX0_core_74 rfl (lt_c rfl) rfl) on_inc
theorem s_57_77 : S57 77 (ia_go 29) := sa_n (snd_goto dX0_core_77 rfl) on_go
theorem s_57_80 : S57 80 (ia_il 81 1) := sa_n (snd_iload_n dX0_core_80 rfl rfl) on_il
theorem s_57_81 : S57 81 (ia_retI) := sa_t (st_retI dX0_core_81 rfl) on_retI
theorem sa_57 (pc : Nat) : S57 pc (cd_57 pc) := sa_c (sa_c (sa_c (sa_c (sa_c (sa_l s_57_0) (sa_c (sa_l s_57_1) (sa_l s_57_4))) (sa_c (sa_l s_57_7) (sa_c (sa_l s_57_10) (sa_l s_57_11)))) (sa_c (sa_c (sa_l s_57_12) (sa_c (sa_l s_57_13) (sa_l s_57_14))) (sa_c (sa_c (sa_l s_57_17) (sa_l s_57_20)) (sa_c (sa_l s_57_21) (sa_l s_57_22))))) (sa_c (sa_c (sa_c (sa_l s_57_23) (sa_c (sa_l s_57_26) (sa_l s_57_27))) (sa_c (sa_l s_57_28) (sa_c (sa_l s_57_29) (sa_l s_57_30)))) (sa_c (sa_c (sa_l s_57_31) (sa_c (sa_l s_57_34) (sa_l s_57_37))) (sa_c (sa_c (sa_l s_57_40) (sa_l s_57_43)) (sa_c (sa_l s_57_44) (sa_l s_57_45)))))) (sa_c (sa_c (sa_c (sa_c (sa_l s_57_46) (sa_c (sa_l s_57_47) (sa_l s_57_48))) (sa_c (sa_l s_57_49) (sa_c (sa_l s_57_52) (sa_l s_57_53)))) (sa_c (sa_c (sa_l s_57_54) (sa_c (sa_l s_57_55) (sa_l s_57_56))) (sa_c (sa_c (sa_l s_57_57) (sa_l s_57_58)) (sa_c (sa_l s_57_59) (sa_l s_57_60))))) (sa_c (sa_c (sa_c (sa_l s_57_63) (sa_c (sa_l s_57_66) (sa_l s_57_67))) (sa_c (sa_l s_57_68) (sa_c (sa_l s_57_69) (sa_l s_57_70)))) (sa_c (sa_c (sa_l s_57_71) (sa_c (sa_l s_57_72) (sa_l s_57_73))) (sa_c (sa_c (sa_l s_57_74) (sa_l s_57_77)) (sa_c (sa_l s_57_80) (sa_l s_57_81))))))
abbrev S58 (pc : Nat) (x : XI) : Prop := SA "WeekFoot" cX0_fitsWith 2 "fitsWith" (some .boolean) pc x
theorem s_58_0 : S58 0 (ia_al 1 0) := sa_n (snd_aload_n dX0_fitsWith_0 rfl rfl) on_al
theorem s_58_1 : S58 1 (ia_gfR 4 1 12) := sa_n (snd_gfR ci_1 (k := 12) (lt_c rfl) dX0_fitsWith_1 (Or.inl q894) (Or.inl rfl) (fun _ _ _ _ => rfl) rfl rfl) on_gfR
theorem s_58_4 : S58 4 (ia_il 5 1) := sa_n (snd_iload_n dX0_fitsWith_4 rfl rfl) on_il
theorem s_58_5 : S58 5 (ia_al 6 0) := sa_n (snd_aload_n dX0_fitsWith_5 rfl rfl) on_al
theorem s_58_6 : S58 6 (ia_gfR 9 1 4) := sa_n (snd_gfR ci_1 (k := 4) (lt_c rfl) dX0_fitsWith_6 (Or.inl q883) (Or.inl rfl) (fun _ _ _ _ => rfl) rfl rfl) on_gfR
theorem s_58_9 : S58 9 (ia_gfR 12 3 0) := sa_n (snd_gfR ci_3 (k := 0) (lt_c rfl) dX0_fitsWith_9 (Or.inr ⟨_, q188⟩) (Or.inl rfl) (fun _ _ _ _ => rfl) rfl rfl) on_gfR
theorem s_58_12 : S58 12 (ia_k 13 (-1)) := sa_n (snd_iconst dX0_fitsWith_12 rfl (okI_c rfl) rfl) on_k
theorem s_58_13 : S58 13 (ia_k 14 (-1)) := sa_n (snd_iconst dX0_fitsWith_13 rfl (okI_c rfl) rfl) on_k
theorem s_58_14 : S58 14 (ia_call 17 5 4 89 6) := sk_V me_89 q1180 dX0_fitsWith_14 rfl
theorem s_58_17 : S58 17 (ia_retZ) := sa_t (st_retZ dX0_fitsWith_17 rfl) on_retZ
theorem sa_58 (pc : Nat) : S58 pc (cd_58 pc) := sa_c (sa_c (sa_c (sa_l s_58_0) (sa_l s_58_1)) (sa_c (sa_l s_58_4) (sa_c (sa_l s_58_5) (sa_l s_58_6)))) (sa_c (sa_c (sa_l s_58_9) (sa_l s_58_12)) (sa_c (sa_l s_58_13) (sa_c (sa_l s_58_14) (sa_l s_58_17))))
abbrev S59 (pc : Nat) (x : XI) : Prop := SA "WeekFoot" cX0_wrong 2 "wrong" (some .int) pc x
theorem s_59_0 : S59 0 (ia_il 1 1) := sa_n (snd_iload_n dX0_wrong_0 rfl rfl) on_il
theorem s_59_1 : S59 1 (ia_k 2 0) := sa_n (snd_iconst dX0_wrong_1 rfl (okI_c rfl) rfl) on_k
theorem s_59_2 : S59 2 (ia_k 3 2) := sa_n (snd_iconst dX0_wrong_2 rfl (okI_c rfl) rfl) on_k
theorem s_59_3 : S59 3 (ia_stat 6 3 2 3) := sk_S me_2 q138 dX0_wrong_3 rfl
theorem s_59_6 : S59 6 (ia_if k0n 9 11) := sa_b (sndB_if_ne dX0_wrong_6 rfl rfl) on_if
theorem s_59_9 : S59 9 (ia_k 10 (-1)) := sa_n (snd_iconst dX0_wrong_9 rfl (okI_c rfl) rfl) on_k
theorem s_59_10 : S59 10 (ia_retI) := sa_t (st_retI dX0_wrong_10 rfl) on_retI
theorem s_59_11 : S59 11 (ia_al 12 0) := sa_n (snd_aload_n dX0_wrong_11 rfl rfl) on_al
theorem s_59_12 : S59 12 (ia_call 15 1 1 60 4) := sk_V me_60 q1186 dX0_wrong_12 rfl
theorem s_59_15 : S59 15 (ia_al 16 0) := sa_n (snd_aload_n dX0_wrong_15 rfl rfl) on_al
theorem s_59_16 : S59 16 (ia_gfI 19 1 24) := sa_n (snd_gfI ci_1 (k := 24) (lt_c rfl) dX0_wrong_16 (Or.inl q906) (Or.inl rfl) (fun _ _ _ _ => rfl) rfl rfl) on_gfI
theorem s_59_19 : S59 19 (ia_if k0n 22 26) := sa_b (sndB_if_ne dX0_wrong_19 rfl rfl) on_if
theorem s_59_22 : S59 22 (ia_k 23 (-1)) := sa_n (snd_iconst dX0_wrong_22 rfl (okI_c rfl) rfl) on_k
theorem s_59_23 : S59 23 (ia_go 53) := sa_n (snd_goto dX0_wrong_23 rfl) on_go
theorem s_59_26 : S59 26 (ia_il 27 1) := sa_n (snd_iload_n dX0_wrong_26 rfl rfl) on_il
theorem s_59_27 : S59 27 (ia_if k0n 30 37) := sa_b (sndB_if_ne dX0_wrong_27 rfl rfl) on_if
theorem s_59_30 : S59 30 (ia_al 31 0) := sa_n (snd_aload_n dX0_wrong_30 rfl rfl) on_al
theorem s_59_31 : S59 31 (ia_gfI 34 1 23) := sa_n (snd_gfI ci_1 (k := 23) (lt_c rfl) dX0_wrong_31 (Or.inl q905) (Or.inl rfl) (fun _ _ _ _ => rfl) rfl rfl) on_gfI
theorem s_59_34 : S59 34 (ia_go 53) := sa_n (snd_goto dX0_wrong_34 rfl) on_go
theorem s_59_37 : S59 37 (ia_il 38 1) := sa_n (snd_iload_n dX0_wrong_37 rfl rfl) on_il
theorem s_59_38 : S59 38 (ia_k 39 1) := sa_n (snd_iconst dX0_wrong_38 rfl (okI_c rfl) rfl) on_k
theorem s_59_39 : S59 39 (ia_ic k2n 42 49) := sa_b (sndB_ic_ne dX0_wrong_39 rfl rfl) on_ic
theorem s_59_42 : S59 42 (ia_al 43 0) := sa_n (snd_aload_n dX0_wrong_42 rfl rfl) on_al
theorem s_59_43 : S59 43 (ia_gfI 46 1 24) := sa_n (snd_gfI ci_1 (k := 24) (lt_c rfl) dX0_wrong_43 (Or.inl q906) (Or.inl rfl) (fun _ _ _ _ => rfl) rfl rfl) on_gfI
theorem s_59_46 : S59 46 (ia_go 53) := sa_n (snd_goto dX0_wrong_46 rfl) on_go
theorem s_59_49 : S59 49 (ia_al 50 0) := sa_n (snd_aload_n dX0_wrong_49 rfl rfl) on_al
theorem s_59_50 : S59 50 (ia_gfI 53 1 25) := sa_n (snd_gfI ci_1 (k := 25) (lt_c rfl) dX0_wrong_50 (Or.inl q907) (Or.inl rfl) (fun _ _ _ _ => rfl) rfl rfl) on_gfI
theorem s_59_53 : S59 53 (ia_retI) := sa_t (st_retI dX0_wrong_53 rfl) on_retI
theorem sa_59 (pc : Nat) : S59 pc (cd_59 pc) := sa_c (sa_c (sa_c (sa_c (sa_l s_59_0) (sa_c (sa_l s_59_1) (sa_l s_59_2))) (sa_c (sa_c (sa_l s_59_3) (sa_l s_59_6)) (sa_c (sa_l s_59_9) (sa_l s_59_10)))) (sa_c (sa_c (sa_l s_59_11) (sa_c (sa_l s_59_12) (sa_l s_59_15))) (sa_c (sa_c (sa_l s_59_16) (sa_l s_59_19)) (sa_c (sa_l s_59_22) (sa_l s_59_23))))) (sa_c (sa_c (sa_c (sa_l s_59_26) (sa_c (sa_l s_59_27) (sa_l s_59_30))) (sa_c (sa_c (sa_l s_59_31) (sa_l s_59_34)) (sa_c (sa_l s_59_37) (sa_l s_59_38)))) (sa_c (sa_c (sa_l s_59_39) (sa_c (sa_l s_59_42) (sa_l s_59_43))) (sa_c (sa_c (sa_l s_59_46) (sa_l s_59_49)) (sa_c (sa_l s_59_50) (sa_l s_59_53)))))
abbrev S60 (pc : Nat) (x : XI) : Prop := SA "WeekFoot" cX0_wrongs 4 "wrongs" (none) pc x
theorem s_60_0 : S60 0 (ia_al 1 0) := sa_n (snd_aload_n dX0_wrongs_0 rfl rfl) on_al
theorem s_60_1 : S60 1 (ia_gfI 4 1 22) := sa_n (snd_gfI ci_1 (k := 22) (lt_c rfl) dX0_wrongs_1 (Or.inl q904) (Or.inl rfl) (fun _ _ _ _ => rfl) rfl rfl) on_gfI
theorem s_60_4 : S60 4 (ia_al 5 0) := sa_n (snd_aload_n dX0_wrongs_4 rfl rfl) on_al
theorem s_60_5 : S60 5 (ia_gfI 8 1 10) := sa_n (snd_gfI ci_1 (k := 10) (lt_c rfl) dX0_wrongs_5 (Or.inl q891) (Or.inl rfl) (fun _ _ _ _ => rfl) rfl rfl) on_gfI
theorem s_60_8 : S60 8 (ia_ic k2n 11 12) := sa_b (sndB_ic_ne dX0_wrongs_8 rfl rfl) on_ic
theorem s_60_11 : S60 11 (ia_ret0) := sa_t (st_ret0 dX0_wrongs_11 rfl) on_ret0
theorem s_60_12 : S60 12 (ia_al 13 0) := sa_n (snd_aload_n dX0_wrongs_12 rfl rfl) on_al
theorem s_60_13 : S60 13 (ia_al 14 0) := sa_n (snd_aload_n dX0_wrongs_13 rfl rfl) on_al
theorem s_60_14 : S60 14 (ia_gfI 17 1 10) := sa_n (snd_gfI ci_1 (k := 10) (lt_c rfl) dX0_wrongs_14 (Or.inl q891) (Or.inl rfl) (fun _ _ _ _ => rfl) rfl rfl) on_gfI
theorem s_60_17 : S60 17 (ia_pfI 20 1 22) := sa_n (snd_pfI ci_1 (k := 22) (lt_c rfl) dX0_wrongs_17 q904 (Or.inl rfl) (Or.inl rfl) (rfl) rfl rfl) on_pfI
theorem s_60_20 : S60 20 (ia_al 21 0) := sa_n (snd_aload_n dX0_wrongs_20 rfl rfl) on_al
theorem s_60_21 : S60 21 (ia_k 22 0) := sa_n (snd_iconst dX0_wrongs_21 rfl (okI_c rfl) rfl) on_k
theorem s_60_22 : S60 22 (ia_pfI 25 1 23) := sa_n (snd_pfI ci_1 (k := 23) (lt_c rfl) dX0_wrongs_22 q905 (Or.inl rfl) (Or.inl rfl) (rfl) rfl rfl) on_pfI
theorem s_60_25 : S60 25 (ia_al 26 0) := sa_n (snd_aload_n dX0_wrongs_25 rfl rfl) on_al
theorem s_60_26 : S60 26 (ia_k 27 1) := sa_n (snd_iconst dX0_wrongs_26 rfl (okI_c rfl) rfl) on_k
theorem s_60_27 : S60 27 (ia_pfI 30 1 24) := sa_n (snd_pfI ci_1 (k := 24) (lt_c rfl) dX0_wrongs_27 q906 (Or.inl rfl) (Or.inl rfl) (rfl) rfl rfl) on_pfI
theorem s_60_30 : S60 30 (ia_al 31 0) := sa_n (snd_aload_n dX0_wrongs_30 rfl rfl) on_al
theorem s_60_31 : S60 31 (ia_k 32 0) := sa_n (snd_iconst dX0_wrongs_31 rfl (okI_c rfl) rfl) on_k
theorem s_60_32 : S60 32 (ia_pfI 35 1 25) := sa_n (snd_pfI ci_1 (k := 25) (lt_c rfl) dX0_wrongs_32 q907 (Or.inl rfl) (Or.inl rfl) (rfl) rfl rfl) on_pfI
theorem s_60_35 : S60 35 (ia_al 36 0) := sa_n (snd_aload_n dX0_wrongs_35 rfl rfl) on_al
theorem s_60_36 : S60 36 (ia_gfR 39 1 11) := sa_n (snd_gfR ci_1 (k := 11) (lt_c rfl) dX0_wrongs_36 (Or.inl q892) (Or.inl rfl) (fun _ _ _ _ => rfl) rfl rfl) on_gfR
theorem s_60_39 : S60 39 (ia_call 42 1 4 88 1) := sk_V me_88 q971 dX0_wrongs_39 rfl
theorem s_60_42 : S60 42 (ia_if k0e 45 46) := sa_b (sndB_if_eq dX0_wrongs_42 rfl rfl) on_if
theorem s_60_45 : S60 45 (ia_ret0) := sa_t (st_ret0 dX0_wrongs_45 rfl) on_ret0
theorem s_60_46 : S60 46 (ia_al 47 0) := sa_n (snd_aload_n dX0_wrongs_46 rfl rfl) on_al
theorem s_60_47 : S60 47 (ia_k 48 1) := sa_n (snd_iconst dX0_wrongs_47 rfl (okI_c rfl) rfl) on_k
theorem s_60_48 : S60 48 (ia_pfI 51 1 23) := sa_n (snd_pfI ci_1 (k := 23) (lt_c rfl) dX0_wrongs_48 q905 (Or.inl rfl) (Or.inl rfl) (rfl) rfl rfl) on_pfI
theorem s_60_51 : S60 51 (ia_al 52 0) := sa_n (snd_aload_n dX0_wrongs_51 rfl rfl) on_al
theorem s_60_52 : S60 52 (ia_k 53 0) := sa_n (snd_iconst dX0_wrongs_52 rfl (okI_c rfl) rfl) on_k
theorem s_60_53 : S60 53 (ia_pfI 56 1 24) := sa_n (snd_pfI ci_1 (k := 24) (lt_c rfl) dX0_wrongs_53 q906 (Or.inl rfl) (Or.inl rfl) (rfl) rfl rfl) on_pfI
theorem s_60_56 : S60 56 (ia_al 57 0) := sa_n (snd_aload_n dX0_wrongs_56 rfl rfl) on_al
theorem s_60_57 : S60 57 (ia_call 60 1 1 28 3) := sk_V me_28 q1181 dX0_wrongs_57 rfl
theorem s_60_60 : S60 60 (ia_is 61 1) := sa_n (snd_istore_n dX0_wrongs_60 rfl (lt_c rfl) rfl) on_is
theorem s_60_61 : S60 61 (ia_k 62 0) := sa_n (snd_iconst dX0_wrongs_61 rfl (okI_c rfl) rfl) on_k
theorem s_60_62 : S60 62 (ia_is 63 2) := sa_n (snd_istore_n dX0_wrongs_62 rfl (lt_c rfl) rfl) on_is
theorem s_60_63 : S60 63 (ia_keep [0, 1, 2] (ia_il 64 2)) := sa_nk (snd_iload_n dX0_wrongs_63 rfl rfl) on_il
theorem s_60_64 : S60 64 (ia_al 65 0) := sa_n (snd_aload_n dX0_wrongs_64 rfl rfl) on_al
theorem s_60_65 : S60 65 (ia_gfR 68 1 4) := sa_n (snd_gfR ci_1 (k := 4) (lt_c rfl) dX0_wrongs_65 (Or.inl q883) (Or.inl rfl) (fun _ _ _ _ => rfl) rfl rfl) on_gfR
theorem s_60_68 : S60 68 (ia_gfR 71 3 5) := sa_n (snd_gfR ci_3 (k := 5) (lt_c rfl) dX0_wrongs_68 (Or.inr ⟨_, q207⟩) (Or.inl rfl) (fun _ _ _ _ => rfl) rfl rfl) on_gfR
theorem s_60_71 : S60 71 (ia_call 74 1 16 254 1) := sk_V me_254 q353 dX0_wrongs_71 rfl
theorem s_60_74 : S60 74 (ia_ic k2g 77 100) := sa_b (sndB_ic_ge dX0_wrongs_74 rfl rfl) on_ic
theorem s_60_77 : S60 77 (ia_il 78 1) := sa_n (snd_iload_n dX0_wrongs_77 rfl rfl) on_il
theorem s_60_78 : S60 78 (ia_il 79 2) := sa_n (snd_iload_n dX0_wrongs_78 rfl rfl) on_il
theorem s_60_79 : S60 79 (ia_bit bShr 80) := sa_n (snd_bShr dX0_wrongs_79 rfl) on_bit
theorem s_60_80 : S60 80 (ia_k 81 1) := sa_n (snd_iconst dX0_wrongs_80 rfl (okI_c rfl) rfl) on_k
theorem s_60_81 : S60 81 (ia_bit bAnd 82) := sa_n (snd_bAnd dX0_wrongs_81 rfl) on_bit
theorem s_60_82 : S60 82 (ia_k 83 1) := sa_n (snd_iconst dX0_wrongs_82 rfl (okI_c rfl) rfl) on_k
theorem s_60_83 : S60 83 (ia_ic k2n 86 94) := sa_b (sndB_ic_ne dX0_wrongs_83 rfl rfl) on_ic
theorem s_60_86 : S60 86 (ia_al 87 0) := sa_n (snd_aload_n dX0_wrongs_86 rfl rfl) on_al
theorem s_60_87 : S60 87 (ia_il 88 1) := sa_n (snd_iload_n dX0_wrongs_87 rfl rfl) on_il
theorem s_60_88 : S60 88 (ia_k 89 1) := sa_n (snd_iconst dX0_wrongs_88 rfl (okI_c rfl) rfl) on_k
theorem s_60_89 : S60 89 (ia_il 90 2) := sa_n (snd_iload_n dX0_wrongs_89 rfl rfl) on_il
theorem s_60_90 : S60 90 (ia_bit bShl 91) := sa_n (snd_bShl dX0_wrongs_90 rfl) on_bit
theorem s_60_91 : S60 91 (ia_call 94 3 1 61 3) := sk_V me_61 q1190 dX0_wrongs_91 rfl
theorem s_60_94 : S60 94 (ia_inc 97 2 1) := sa_n (snd_iinc dX0_wrongs_94 rfl (lt_c rfl) rfl) on_inc
theorem s_60_97 : S60 97 (ia_go 63) := sa_n (snd_goto dX0_wrongs_97 rfl) on_go
theorem s_60_100 : S60 100 (ia_al 101 0) := sa_n (snd_aload_n dX0_wrongs_100 rfl rfl) on_al
theorem s_60_101 : S60 101 (ia_gfI 104 1 24) := sa_n (snd_gfI ci_1 (k := 24) (lt_c rfl) dX0_wrongs_101 (Or.inl q906) (Or.inl rfl) (fun _ _ _ _ => rfl) rfl rfl) on_gfI
theorem s_60_104 : S60 104 (ia_if k0L 107 108) := sa_b (sndB_if_le dX0_wrongs_104 rfl rfl) on_if
theorem s_60_107 : S60 107 (ia_ret0) := sa_t (st_ret0 dX0_wrongs_107 rfl) on_ret0
theorem s_60_108 : S60 108 (ia_al 109 0) := sa_n (snd_aload_n dX0_wrongs_108 rfl rfl) on_al
theorem s_60_109 : S60 109 (ia_k 110 2) := sa_n (snd_iconst dX0_wrongs_109 rfl (okI_c rfl) rfl) on_k
theorem s_60_110 : S60 110 (ia_pfI 113 1 23) := sa_n (snd_pfI ci_1 (k := 23) (lt_c rfl) dX0_wrongs_110 q905 (Or.inl rfl) (Or.inl rfl) (rfl) rfl rfl) on_pfI
theorem s_60_113 : S60 113 (ia_k 114 0) := sa_n (snd_iconst dX0_wrongs_113 rfl (okI_c rfl) rfl) on_k
theorem s_60_114 : S60 114 (ia_is 115 2) := sa_n (snd_istore_n dX0_wrongs_114 rfl (lt_c rfl) rfl) on_is
theorem s_60_115 : S60 115 (ia_keep [0, 1, 2] (ia_il 116 2)) := sa_nk (snd_iload_n dX0_wrongs_115 rfl rfl) on_il
theorem s_60_116 : S60 116 (ia_al 117 0) := sa_n (snd_aload_n dX0_wrongs_116 rfl rfl) on_al
theorem s_60_117 : S60 117 (ia_gfR 120 1 4) := sa_n (snd_gfR ci_1 (k := 4) (lt_c rfl) dX0_wrongs_117 (Or.inl q883) (Or.inl rfl) (fun _ _ _ _ => rfl) rfl rfl) on_gfR
theorem s_60_120 : S60 120 (ia_gfR 123 3 5) := sa_n (snd_gfR ci_3 (k := 5) (lt_c rfl) dX0_wrongs_120 (Or.inr ⟨_, q207⟩) (Or.inl rfl) (fun _ _ _ _ => rfl) rfl rfl) on_gfR
theorem s_60_123 : S60 123 (ia_call 126 1 16 254 1) := sk_V me_254 q353 dX0_wrongs_123 rfl
theorem s_60_126 : S60 126 (ia_ic k2g 129 178) := sa_b (sndB_ic_ge dX0_wrongs_126 rfl rfl) on_ic
theorem s_60_129 : S60 129 (ia_k 130 0) := sa_n (snd_iconst dX0_wrongs_129 rfl (okI_c rfl) rfl) on_k
theorem s_60_130 : S60 130 (ia_is 131 3) := sa_n (snd_istore_n dX0_wrongs_130 rfl (lt_c rfl) rfl) on_is
theorem s_60_131 : S60 131 (ia_keep [0, 1, 2, 3] (ia_il 132 3)) := sa_nk (snd_iload_n dX0_wrongs_131 rfl rfl) on_il
theorem s_60_132 : S60 132 (ia_il 133 2) := sa_n (snd_iload_n dX0_wrongs_132 rfl rfl) on_il
theorem s_60_133 : S60 133 (ia_ic k2g 136 172) := sa_b (sndB_ic_ge dX0_wrongs_133 rfl rfl) on_ic
theorem s_60_136 : S60 136 (ia_il 137 1) := sa_n (snd_iload_n dX0_wrongs_136 rfl rfl) on_il
theorem s_60_137 : S60 137 (ia_il 138 2) := sa_n (snd_iload_n dX0_wrongs_137 rfl rfl) on_il
theorem s_60_138 : S60 138 (ia_bit bShr 139) := sa_n (snd_bShr dX0_wrongs_138 rfl) on_bit
theorem s_60_139 : S60 139 (ia_k 140 1) := sa_n (snd_iconst dX0_wrongs_139 rfl (okI_c rfl) rfl) on_k
theorem s_60_140 : S60 140 (ia_bit bAnd 141) := sa_n (snd_bAnd dX0_wrongs_140 rfl) on_bit
theorem s_60_141 : S60 141 (ia_k 142 1) := sa_n (snd_iconst dX0_wrongs_141 rfl (okI_c rfl) rfl) on_k
theorem s_60_142 : S60 142 (ia_ic k2n 145 166) := sa_b (sndB_ic_ne dX0_wrongs_142 rfl rfl) on_ic
theorem s_60_145 : S60 145 (ia_il 146 1) := sa_n (snd_iload_n dX0_wrongs_145 rfl rfl) on_il
theorem s_60_146 : S60 146 (ia_il 147 3) := sa_n (snd_iload_n dX0_wrongs_146 rfl rfl) on_il
theorem s_60_147 : S60 147 (ia_bit bShr 148) := sa_n (snd_bShr dX0_wrongs_147 rfl) on_bit
theorem s_60_148 : S60 148 (ia_k 149 1) := sa_n (snd_iconst dX0_wrongs_148 rfl (okI_c rfl) rfl) on_k
theorem s_60_149 : S60 149 (ia_bit bAnd 150) := sa_n (snd_bAnd dX0_wrongs_149 rfl) on_bit
theorem s_60_150 : S60 150 (ia_k 151 1) := sa_n (snd_iconst dX0_wrongs_150 rfl (okI_c rfl) rfl) on_k
theorem s_60_151 : S60 151 (ia_ic k2n 154 166) := sa_b (sndB_ic_ne dX0_wrongs_151 rfl rfl) on_ic
theorem s_60_154 : S60 154 (ia_al 155 0) := sa_n (snd_aload_n dX0_wrongs_154 rfl rfl) on_al
theorem s_60_155 : S60 155 (ia_il 156 1) := sa_n (snd_iload_n dX0_wrongs_155 rfl rfl) on_il
theorem s_60_156 : S60 156 (ia_k 157 1) := sa_n (snd_iconst dX0_wrongs_156 rfl (okI_c rfl) rfl) on_k
theorem s_60_157 : S60 157 (ia_il 158 2) := sa_n (snd_iload_n dX0_wrongs_157 rfl rfl) on_il
theorem s_60_158 : S60 158 (ia_bit bShl 159) := sa_n (snd_bShl dX0_wrongs_158 rfl) on_bit
theorem s_60_159 : S60 159 (ia_k 160 1) := sa_n (snd_iconst dX0_wrongs_159 rfl (okI_c rfl) rfl) on_k
theorem s_60_160 : S60 160 (ia_il 161 3) := sa_n (snd_iload_n dX0_wrongs_160 rfl rfl) on_il
theorem s_60_161 : S60 161 (ia_bit bShl 162) := sa_n (snd_bShl dX0_wrongs_161 rfl) on_bit
theorem s_60_162 : S60 162 (ia_bit bOr 163) := sa_n (snd_bOr dX0_wrongs_162 rfl) on_bit
theorem s_60_163 : S60 163 (ia_call 166 3 1 61 3) := sk_V me_61 q1190 dX0_wrongs_163 rfl
theorem s_60_166 : S60 166 (ia_inc 169 3 1) := sa_n (snd_iinc dX0_wrongs_166 rfl (lt_c rfl) rfl) on_inc
theorem s_60_169 : S60 169 (ia_go 131) := sa_n (snd_goto dX0_wrongs_169 rfl) on_go
theorem s_60_172 : S60 172 (ia_inc 175 2 1) := sa_n (snd_iinc dX0_wrongs_172 rfl (lt_c rfl) rfl) on_inc
theorem s_60_175 : S60 175 (ia_go 115) := sa_n (snd_goto dX0_wrongs_175 rfl) on_go
theorem s_60_178 : S60 178 (ia_ret0) := sa_t (st_ret0 dX0_wrongs_178 rfl) on_ret0
theorem sa_60_0 (pc : Nat) : S60 pc (cd_60_0 pc) := sa_c (sa_c (sa_c (sa_c (sa_c (sa_l s_60_0) (sa_c (sa_l s_60_1) (sa_l s_60_4))) (sa_c (sa_l s_60_5) (sa_c (sa_l s_60_8) (sa_l s_60_11)))) (sa_c (sa_c (sa_l s_60_12) (sa_c (sa_l s_60_13) (sa_l s_60_14))) (sa_c (sa_c (sa_l s_60_17) (sa_l s_60_20)) (sa_c (sa_l s_60_21) (sa_l s_60_22))))) (sa_c (sa_c (sa_c (sa_l s_60_25) (sa_c (sa_l s_60_26) (sa_l s_60_27))) (sa_c (sa_l s_60_30) (sa_c (sa_l s_60_31) (sa_l s_60_32)))) (sa_c (sa_c (sa_l s_60_35) (sa_c (sa_l s_60_36) (sa_l s_60_39))) (sa_c (sa_c (sa_l s_60_42) (sa_l s_60_45)) (sa_c (sa_l s_60_46) (sa_l s_60_47)))))) (sa_c (sa_c (sa_c (sa_c (sa_l s_60_48) (sa_c (sa_l s_60_51) (sa_l s_60_52))) (sa_c (sa_l s_60_53) (sa_c (sa_l s_60_56) (sa_l s_60_57)))) (sa_c (sa_c (sa_l s_60_60) (sa_c (sa_l s_60_61) (sa_l s_60_62))) (sa_c (sa_c (sa_l s_60_63) (sa_l s_60_64)) (sa_c (sa_l s_60_65) (sa_l s_60_68))))) (sa_c (sa_c (sa_c (sa_l s_60_71) (sa_c (sa_l s_60_74) (sa_l s_60_77))) (sa_c (sa_c (sa_l s_60_78) (sa_l s_60_79)) (sa_c (sa_l s_60_80) (sa_l s_60_81)))) (sa_c (sa_c (sa_l s_60_82) (sa_c (sa_l s_60_83) (sa_l s_60_86))) (sa_c (sa_c (sa_l s_60_87) (sa_l s_60_88)) (sa_c (sa_l s_60_89) (sa_l s_60_90))))))
theorem sa_60_1 (pc : Nat) : S60 pc (cd_60_1 pc) := sa_c (sa_c (sa_c (sa_c (sa_c (sa_l s_60_91) (sa_c (sa_l s_60_94) (sa_l s_60_97))) (sa_c (sa_l s_60_100) (sa_c (sa_l s_60_101) (sa_l s_60_104)))) (sa_c (sa_c (sa_l s_60_107) (sa_c (sa_l s_60_108) (sa_l s_60_109))) (sa_c (sa_c (sa_l s_60_110) (sa_l s_60_113)) (sa_c (sa_l s_60_114) (sa_l s_60_115))))) (sa_c (sa_c (sa_c (sa_l s_60_116) (sa_c (sa_l s_60_117) (sa_l s_60_120))) (sa_c (sa_l s_60_123) (sa_c (sa_l s_60_126) (sa_l s_60_129)))) (sa_c (sa_c (sa_l s_60_130) (sa_c (sa_l s_60_131) (sa_l s_60_132))) (sa_c (sa_c (sa_l s_60_133) (sa_l s_60_136)) (sa_c (sa_l s_60_137) (sa_l s_60_138)))))) (sa_c (sa_c (sa_c (sa_c (sa_l s_60_139) (sa_c (sa_l s_60_140) (sa_l s_60_141))) (sa_c (sa_l s_60_142) (sa_c (sa_l s_60_145) (sa_l s_60_146)))) (sa_c (sa_c (sa_l s_60_147) (sa_c (sa_l s_60_148) (sa_l s_60_149))) (sa_c (sa_c (sa_l s_60_150) (sa_l s_60_151)) (sa_c (sa_l s_60_154) (sa_l s_60_155))))) (sa_c (sa_c (sa_c (sa_l s_60_156) (sa_c (sa_l s_60_157) (sa_l s_60_158))) (sa_c (sa_l s_60_159) (sa_c (sa_l s_60_160) (sa_l s_60_161)))) (sa_c (sa_c (sa_l s_60_162) (sa_c (sa_l s_60_163) (sa_l s_60_166))) (sa_c (sa_c (sa_l s_60_169) (sa_l s_60_172)) (sa_c (sa_l s_60_175) (sa_l s_60_178))))))
theorem sa_60 (pc : Nat) : S60 pc (cd_60 pc) := sa_c (sa_60_0 pc) (sa_60_1 pc)
abbrev S61 (pc : Nat) (x : XI) : Prop := SA "WeekFoot" cX0_tries 3 "tries" (none) pc x
theorem s_61_0 : S61 0 (ia_al 1 0) := sa_n (snd_aload_n dX0_tries_0 rfl rfl) on_al
theorem s_61_1 : S61 1 (ia_il 2 1) := sa_n (snd_iload_n dX0_tries_1 rfl rfl) on_il
theorem s_61_2 : S61 2 (ia_il 3 2) := sa_n (snd_iload_n dX0_tries_2 rfl rfl) on_il
theorem s_61_3 : S61 3 (ia_k 4 (-1)) := sa_n (snd_iconst dX0_tries_3 rfl (okI_c rfl) rfl) on_k
theorem s_61_4 : S61 4 (ia_bit bXor 5) := sa_n (snd_bXor dX0_tries_4 rfl) on_bit
theorem s_61_5 : S61 5 (ia_bit bAnd 6) := sa_n (snd_bAnd dX0_tries_5 rfl) on_bit
theorem s_61_6 : S61 6 (ia_call 9 2 1 58 2) := sk_V me_58 q1176 dX0_tries_6 rfl
theorem s_61_9 : S61 9 (ia_if k0n 12 13) := sa_b (sndB_if_ne dX0_tries_9 rfl rfl) on_if
theorem s_61_12 : S61 12 (ia_ret0) := sa_t (st_ret0 dX0_tries_12 rfl) on_ret0
theorem s_61_13 : S61 13 (ia_al 14 0) := sa_n (snd_aload_n dX0_tries_13 rfl rfl) on_al
theorem s_61_14 : S61 14 (ia_gfI 17 1 24) := sa_n (snd_gfI ci_1 (k := 24) (lt_c rfl) dX0_tries_14 (Or.inl q906) (Or.inl rfl) (fun _ _ _ _ => rfl) rfl rfl) on_gfI
theorem s_61_17 : S61 17 (ia_if k0e 20 28) := sa_b (sndB_if_eq dX0_tries_17 rfl rfl) on_if
theorem s_61_20 : S61 20 (ia_il 21 2) := sa_n (snd_iload_n dX0_tries_20 rfl rfl) on_il
theorem s_61_21 : S61 21 (ia_al 22 0) := sa_n (snd_aload_n dX0_tries_21 rfl rfl) on_al
theorem s_61_22 : S61 22 (ia_gfI 25 1 25) := sa_n (snd_gfI ci_1 (k := 25) (lt_c rfl) dX0_tries_22 (Or.inl q907) (Or.inl rfl) (fun _ _ _ _ => rfl) rfl rfl) on_gfI
theorem s_61_25 : S61 25 (ia_ic k2g 28 33) := sa_b (sndB_ic_ge dX0_tries_25 rfl rfl) on_ic
theorem s_61_28 : S61 28 (ia_al 29 0) := sa_n (snd_aload_n dX0_tries_28 rfl rfl) on_al
theorem s_61_29 : S61 29 (ia_il 30 2) := sa_n (snd_iload_n dX0_tries_29 rfl rfl) on_il
theorem s_61_30 : S61 30 (ia_pfI 33 1 25) := sa_n (snd_pfI ci_1 (k := 25) (lt_c rfl) dX0_tries_30 q907 (Or.inl rfl) (Or.inl rfl) (rfl) rfl rfl) on_pfI
theorem s_61_33 : S61 33 (ia_al 34 0) := sa_n (snd_aload_n dX0_tries_33 rfl rfl) on_al
theorem s_61_34 : S61 34 (ia_dup 35) := sa_n (snd_dup dX0_tries_34 rfl) on_dup
theorem s_61_35 : S61 35 (ia_gfI 38 1 24) := sa_n (snd_gfI ci_1 (k := 24) (lt_c rfl) dX0_tries_35 (Or.inl q906) (Or.inl rfl) (fun _ _ _ _ => rfl) rfl rfl) on_gfI
theorem s_61_38 : S61 38 (ia_k 39 1) := sa_n (snd_iconst dX0_tries_38 rfl (okI_c rfl) rfl) on_k
theorem s_61_39 : S61 39 (ia_add 40) := sa_n (snd_iadd dX0_tries_39 rfl) on_add
theorem s_61_40 : S61 40 (ia_pfI 43 1 24) := sa_n (snd_pfI ci_1 (k := 24) (lt_c rfl) dX0_tries_40 q906 (Or.inl rfl) (Or.inl rfl) (rfl) rfl rfl) on_pfI
theorem s_61_43 : S61 43 (ia_ret0) := sa_t (st_ret0 dX0_tries_43 rfl) on_ret0
theorem sa_61 (pc : Nat) : S61 pc (cd_61 pc) := sa_c (sa_c (sa_c (sa_c (sa_l s_61_0) (sa_c (sa_l s_61_1) (sa_l s_61_2))) (sa_c (sa_l s_61_3) (sa_c (sa_l s_61_4) (sa_l s_61_5)))) (sa_c (sa_c (sa_l s_61_6) (sa_c (sa_l s_61_9) (sa_l s_61_12))) (sa_c (sa_c (sa_l s_61_13) (sa_l s_61_14)) (sa_c (sa_l s_61_17) (sa_l s_61_20))))) (sa_c (sa_c (sa_c (sa_l s_61_21) (sa_c (sa_l s_61_22) (sa_l s_61_25))) (sa_c (sa_l s_61_28) (sa_c (sa_l s_61_29) (sa_l s_61_30)))) (sa_c (sa_c (sa_l s_61_33) (sa_c (sa_l s_61_34) (sa_l s_61_35))) (sa_c (sa_c (sa_l s_61_38) (sa_l s_61_39)) (sa_c (sa_l s_61_40) (sa_l s_61_43)))))
abbrev S62 (pc : Nat) (x : XI) : Prop := SA "WeekFoot" cX0_whose 4 "whose" (some .int) pc x
theorem s_62_0 : S62 0 (ia_al 1 0) := sa_n (snd_aload_n dX0_whose_0 rfl rfl) on_al
theorem s_62_1 : S62 1 (ia_gfR 4 1 26) := sa_n (snd_gfR ci_1 (k := 26) (lt_c rfl) dX0_whose_1 (Or.inl q908) (Or.inl rfl) (fun _ _ _ _ => rfl) rfl rfl) on_gfR
theorem s_62_4 : S62 4 (ia_call 7 1 5 98 2) := sk_V me_98 q1198 dX0_whose_4 rfl
theorem s_62_7 : S62 7 (ia_al 8 0) := sa_n (snd_aload_n dX0_whose_7 rfl rfl) on_al
theorem s_62_8 : S62 8 (ia_gfR 11 1 26) := sa_n (snd_gfR ci_1 (k := 26) (lt_c rfl) dX0_whose_8 (Or.inl q908) (Or.inl rfl) (fun _ _ _ _ => rfl) rfl rfl) on_gfR
theorem s_62_11 : S62 11 (ia_gfI 14 5 4) := sa_n (snd_gfI ci_5 (k := 4) (lt_c rfl) dX0_whose_11 (Or.inr ⟨_, q825⟩) (Or.inl rfl) (fun _ _ _ _ => rfl) rfl rfl) on_gfI
theorem s_62_14 : S62 14 (ia_k 15 3) := sa_n (snd_iconst dX0_whose_14 rfl (okI_c rfl) rfl) on_k
theorem s_62_15 : S62 15 (ia_ic k2L 18 20) := sa_b (sndB_ic_le dX0_whose_15 rfl rfl) on_ic
theorem s_62_18 : S62 18 (ia_k 19 (-1)) := sa_n (snd_iconst dX0_whose_18 rfl (okI_c rfl) rfl) on_k
theorem s_62_19 : S62 19 (ia_retI) := sa_t (st_retI dX0_whose_19 rfl) on_retI
theorem s_62_20 : S62 20 (ia_il 21 1) := sa_n (snd_iload_n dX0_whose_20 rfl rfl) on_il
theorem s_62_21 : S62 21 (ia_k 22 (-1)) := sa_n (snd_iconst dX0_whose_21 rfl (okI_c rfl) rfl) on_k
theorem s_62_22 : S62 22 (ia_ic k2n 25 33) := sa_b (sndB_ic_ne dX0_whose_22 rfl rfl) on_ic
theorem s_62_25 : S62 25 (ia_al 26 0) := sa_n (snd_aload_n dX0_whose_25 rfl rfl) on_al
theorem s_62_26 : S62 26 (ia_gfR 29 1 26) := sa_n (snd_gfR ci_1 (k := 26) (lt_c rfl) dX0_whose_26 (Or.inl q908) (Or.inl rfl) (fun _ _ _ _ => rfl) rfl rfl) on_gfR
theorem s_62_29 : S62 29 (ia_gfI 32 5 5) := sa_n (snd_gfI ci_5 (k := 5) (lt_c rfl) dX0_whose_29 (Or.inr ⟨_, q827⟩) (Or.inl rfl) (fun _ _ _ _ => rfl) rfl rfl) on_gfI
theorem s_62_32 : S62 32 (ia_retI) := sa_t (st_retI dX0_whose_32 rfl) on_retI
theorem s_62_33 : S62 33 (ia_al 34 0) := sa_n (snd_aload_n dX0_whose_33 rfl rfl) on_al
theorem s_62_34 : S62 34 (ia_gfR 37 1 26) := sa_n (snd_gfR ci_1 (k := 26) (lt_c rfl) dX0_whose_34 (Or.inl q908) (Or.inl rfl) (fun _ _ _ _ => rfl) rfl rfl) on_gfR
theorem s_62_37 : S62 37 (ia_il 38 1) := sa_n (snd_iload_n dX0_whose_37 rfl rfl) on_il
theorem s_62_38 : S62 38 (ia_call 41 2 5 101 3) := sk_V me_101 q1215 dX0_whose_38 rfl
theorem s_62_41 : S62 41 (ia_is 42 2) := sa_n (snd_istore_n dX0_whose_41 rfl (lt_c rfl) rfl) on_is
theorem s_62_42 : S62 42 (ia_il 43 2) := sa_n (snd_iload_n dX0_whose_42 rfl rfl) on_il
theorem s_62_43 : S62 43 (ia_k 44 (-1)) := sa_n (snd_iconst dX0_whose_43 rfl (okI_c rfl) rfl) on_k
theorem s_62_44 : S62 44 (ia_ic k2e 47 57) := sa_b (sndB_ic_eq dX0_whose_44 rfl rfl) on_ic
theorem s_62_47 : S62 47 (ia_al 48 0) := sa_n (snd_aload_n dX0_whose_47 rfl rfl) on_al
theorem s_62_48 : S62 48 (ia_gfR 51 1 26) := sa_n (snd_gfR ci_1 (k := 26) (lt_c rfl) dX0_whose_48 (Or.inl q908) (Or.inl rfl) (fun _ _ _ _ => rfl) rfl rfl) on_gfR
theorem s_62_51 : S62 51 (ia_gfI 54 5 5) := sa_n (snd_gfI ci_5 (k := 5) (lt_c rfl) dX0_whose_51 (Or.inr ⟨_, q827⟩) (Or.inl rfl) (fun _ _ _ _ => rfl) rfl rfl) on_gfI
theorem s_62_54 : S62 54 (ia_if k0n 57 59) := sa_b (sndB_if_ne dX0_whose_54 rfl rfl) on_if
theorem s_62_57 : S62 57 (ia_k 58 (-1)) := sa_n (snd_iconst dX0_whose_57 rfl (okI_c rfl) rfl) on_k
theorem s_62_58 : S62 58 (ia_retI) := sa_t (st_retI dX0_whose_58 rfl) on_retI
theorem s_62_59 : S62 59 (ia_k 60 0) := sa_n (snd_iconst dX0_whose_59 rfl (okI_c rfl) rfl) on_k
theorem s_62_60 : S62 60 (ia_is 61 3) := sa_n (snd_istore_n dX0_whose_60 rfl (lt_c rfl) rfl) on_is
theorem s_62_61 : S62 61 (ia_keep [0, 2, 3] (ia_il 62 3)) := sa_nk (snd_iload_n dX0_whose_61 rfl rfl) on_il
theorem s_62_62 : S62 62 (ia_k 63 4) := sa_n (snd_iconst dX0_whose_62 rfl (okI_c rfl) rfl) on_k
theorem s_62_63 : S62 63 (ia_ic k2g 66 97) := sa_b (sndB_ic_ge dX0_whose_63 rfl rfl) on_ic
theorem s_62_66 : S62 66 (ia_al 67 0) := sa_n (snd_aload_n dX0_whose_66 rfl rfl) on_al
theorem s_62_67 : S62 67 (ia_gfR 70 1 26) := sa_n (snd_gfR ci_1 (k := 26) (lt_c rfl) dX0_whose_67 (Or.inl q908) (Or.inl rfl) (fun _ _ _ _ => rfl) rfl rfl) on_gfR
theorem s_62_70 : S62 70 (ia_gfR 73 5 2) := sa_n (snd_gfR ci_5 (k := 2) (lt_c rfl) dX0_whose_70 (Or.inr ⟨_, q822⟩) (Or.inl rfl) (fun _ _ _ _ => rfl) rfl rfl) on_gfR
theorem s_62_73 : S62 73 (ia_k 74 4) := sa_n (snd_iconst dX0_whose_73 rfl (okI_c rfl) rfl) on_k
theorem s_62_74 : S62 74 (ia_il 75 2) := sa_n (snd_iload_n dX0_whose_74 rfl rfl) on_il
theorem s_62_75 : S62 75 (ia_mul 76) := sa_n (snd_imul dX0_whose_75 rfl) on_mul
theorem s_62_76 : S62 76 (ia_il 77 3) := sa_n (snd_iload_n dX0_whose_76 rfl rfl) on_il
theorem s_62_77 : S62 77 (ia_add 78) := sa_n (snd_iadd dX0_whose_77 rfl) on_add
theorem s_62_78 : S62 78 (ia_ldI 79 100) := sa_n (snd_iaload dX0_whose_78 rfl) on_ldI
theorem s_62_79 : S62 79 (ia_al 80 0) := sa_n (snd_aload_n dX0_whose_79 rfl rfl) on_al
theorem s_62_80 : S62 80 (ia_gfR 83 1 26) := sa_n (snd_gfR ci_1 (k := 26) (lt_c rfl) dX0_whose_80 (Or.inl q908) (Or.inl rfl) (fun _ _ _ _ => rfl) rfl rfl) on_gfR
theorem s_62_83 : S62 83 (ia_gfI 86 5 5) := sa_n (snd_gfI ci_5 (k := 5) (lt_c rfl) dX0_whose_83 (Or.inr ⟨_, q827⟩) (Or.inl rfl) (fun _ _ _ _ => rfl) rfl rfl) on_gfI
theorem s_62_86 : S62 86 (ia_ic k2n 89 91) := sa_b (sndB_ic_ne dX0_whose_86 rfl rfl) on_ic
theorem s_62_89 : S62 89 (ia_il 90 3) := sa_n (snd_iload_n dX0_whose_89 rfl rfl) on_il
theorem s_62_90 : S62 90 (ia_retI) := sa_t (st_retI dX0_whose_90 rfl) on_retI
theorem s_62_91 : S62 91 (ia_inc 94 3 1) := sa_n (snd_iinc dX0_whose_91 rfl (lt_c rfl) rfl) on_inc
theorem s_62_94 : S62 94 (ia_go 61) := sa_n (snd_goto dX0_whose_94 rfl) on_go
theorem s_62_97 : S62 97 (ia_k 98 5) := sa_n (snd_iconst dX0_whose_97 rfl (okI_c rfl) rfl) on_k
theorem s_62_98 : S62 98 (ia_retI) := sa_t (st_retI dX0_whose_98 rfl) on_retI
theorem sa_62 (pc : Nat) : S62 pc (cd_62 pc) := sa_c (sa_c (sa_c (sa_c (sa_c (sa_l s_62_0) (sa_c (sa_l s_62_1) (sa_l s_62_4))) (sa_c (sa_l s_62_7) (sa_c (sa_l s_62_8) (sa_l s_62_11)))) (sa_c (sa_c (sa_l s_62_14) (sa_c (sa_l s_62_15) (sa_l s_62_18))) (sa_c (sa_c (sa_l s_62_19) (sa_l s_62_20)) (sa_c (sa_l s_62_21) (sa_l s_62_22))))) (sa_c (sa_c (sa_c (sa_l s_62_25) (sa_c (sa_l s_62_26) (sa_l s_62_29))) (sa_c (sa_c (sa_l s_62_32) (sa_l s_62_33)) (sa_c (sa_l s_62_34) (sa_l s_62_37)))) (sa_c (sa_c (sa_l s_62_38) (sa_c (sa_l s_62_41) (sa_l s_62_42))) (sa_c (sa_c (sa_l s_62_43) (sa_l s_62_44)) (sa_c (sa_l s_62_47) (sa_l s_62_48)))))) (sa_c (sa_c (sa_c (sa_c (sa_l s_62_51) (sa_c (sa_l s_62_54) (sa_l s_62_57))) (sa_c (sa_c (sa_l s_62_58) (sa_l s_62_59)) (sa_c (sa_l s_62_60) (sa_l s_62_61)))) (sa_c (sa_c (sa_l s_62_62) (sa_c (sa_l s_62_63) (sa_l s_62_66))) (sa_c (sa_c (sa_l s_62_67) (sa_l s_62_70)) (sa_c (sa_l s_62_73) (sa_l s_62_74))))) (sa_c (sa_c (sa_c (sa_l s_62_75) (sa_c (sa_l s_62_76) (sa_l s_62_77))) (sa_c (sa_c (sa_l s_62_78) (sa_l s_62_79)) (sa_c (sa_l s_62_80) (sa_l s_62_83)))) (sa_c (sa_c (sa_l s_62_86) (sa_c (sa_l s_62_89) (sa_l s_62_90))) (sa_c (sa_c (sa_l s_62_91) (sa_l s_62_94)) (sa_c (sa_l s_62_97) (sa_l s_62_98))))))
abbrev S63 (pc : Nat) (x : XI) : Prop := SA "WeekFoot" cX0_could_2 4 "could" (some .int) pc x
theorem s_63_0 : S63 0 (ia_al 1 0) := sa_n (snd_aload_n dX0_could_2_0 rfl rfl) on_al
theorem s_63_1 : S63 1 (ia_gfR 4 1 26) := sa_n (snd_gfR ci_1 (k := 26) (lt_c rfl) dX0_could_2_1 (Or.inl q908) (Or.inl rfl) (fun _ _ _ _ => rfl) rfl rfl) on_gfR
theorem s_63_4 : S63 4 (ia_call 7 1 5 98 2) := sk_V me_98 q1198 dX0_could_2_4 rfl
theorem s_63_7 : S63 7 (ia_al 8 0) := sa_n (snd_aload_n dX0_could_2_7 rfl rfl) on_al
theorem s_63_8 : S63 8 (ia_gfR 11 1 26) := sa_n (snd_gfR ci_1 (k := 26) (lt_c rfl) dX0_could_2_8 (Or.inl q908) (Or.inl rfl) (fun _ _ _ _ => rfl) rfl rfl) on_gfR
theorem s_63_11 : S63 11 (ia_gfI 14 5 4) := sa_n (snd_gfI ci_5 (k := 4) (lt_c rfl) dX0_could_2_11 (Or.inr ⟨_, q825⟩) (Or.inl rfl) (fun _ _ _ _ => rfl) rfl rfl) on_gfI
theorem s_63_14 : S63 14 (ia_k 15 3) := sa_n (snd_iconst dX0_could_2_14 rfl (okI_c rfl) rfl) on_k
theorem s_63_15 : S63 15 (ia_ic k2L 18 22) := sa_b (sndB_ic_le dX0_could_2_15 rfl rfl) on_ic
theorem s_63_18 : S63 18 (ia_k 19 (-1)) := sa_n (snd_iconst dX0_could_2_18 rfl (okI_c rfl) rfl) on_k
theorem s_63_19 : S63 19 (ia_go 30) := sa_n (snd_goto dX0_could_2_19 rfl) on_go
theorem s_63_22 : S63 22 (ia_al 23 0) := sa_n (snd_aload_n dX0_could_2_22 rfl rfl) on_al
theorem s_63_23 : S63 23 (ia_gfR 26 1 26) := sa_n (snd_gfR ci_1 (k := 26) (lt_c rfl) dX0_could_2_23 (Or.inl q908) (Or.inl rfl) (fun _ _ _ _ => rfl) rfl rfl) on_gfR
theorem s_63_26 : S63 26 (ia_il 27 1) := sa_n (snd_iload_n dX0_could_2_26 rfl rfl) on_il
theorem s_63_27 : S63 27 (ia_call 30 2 5 101 3) := sk_V me_101 q1215 dX0_could_2_27 rfl
theorem s_63_30 : S63 30 (ia_is 31 3) := sa_n (snd_istore_n dX0_could_2_30 rfl (lt_c rfl) rfl) on_is
theorem s_63_31 : S63 31 (ia_il 32 3) := sa_n (snd_iload_n dX0_could_2_31 rfl rfl) on_il
theorem s_63_32 : S63 32 (ia_k 33 (-1)) := sa_n (snd_iconst dX0_could_2_32 rfl (okI_c rfl) rfl) on_k
theorem s_63_33 : S63 33 (ia_ic k2e 36 43) := sa_b (sndB_ic_eq dX0_could_2_33 rfl rfl) on_ic
theorem s_63_36 : S63 36 (ia_il 37 2) := sa_n (snd_iload_n dX0_could_2_36 rfl rfl) on_il
theorem s_63_37 : S63 37 (ia_stat 40 1 9 1) := sk_S me_9 q320 dX0_could_2_37 rfl
theorem s_63_40 : S63 40 (ia_if k0n 43 47) := sa_b (sndB_if_ne dX0_could_2_40 rfl rfl) on_if
theorem s_63_43 : S63 43 (ia_k 44 (-1)) := sa_n (snd_iconst dX0_could_2_43 rfl (okI_c rfl) rfl) on_k
theorem s_63_44 : S63 44 (ia_go 60) := sa_n (snd_goto dX0_could_2_44 rfl) on_go
theorem s_63_47 : S63 47 (ia_al 48 0) := sa_n (snd_aload_n dX0_could_2_47 rfl rfl) on_al
theorem s_63_48 : S63 48 (ia_gfR 51 1 26) := sa_n (snd_gfR ci_1 (k := 26) (lt_c rfl) dX0_could_2_48 (Or.inl q908) (Or.inl rfl) (fun _ _ _ _ => rfl) rfl rfl) on_gfR
theorem s_63_51 : S63 51 (ia_gfR 54 5 2) := sa_n (snd_gfR ci_5 (k := 2) (lt_c rfl) dX0_could_2_51 (Or.inr ⟨_, q822⟩) (Or.inl rfl) (fun _ _ _ _ => rfl) rfl rfl) on_gfR
theorem s_63_54 : S63 54 (ia_k 55 4) := sa_n (snd_iconst dX0_could_2_54 rfl (okI_c rfl) rfl) on_k
theorem s_63_55 : S63 55 (ia_il 56 3) := sa_n (snd_iload_n dX0_could_2_55 rfl rfl) on_il
theorem s_63_56 : S63 56 (ia_mul 57) := sa_n (snd_imul dX0_could_2_56 rfl) on_mul
theorem s_63_57 : S63 57 (ia_il 58 2) := sa_n (snd_iload_n dX0_could_2_57 rfl rfl) on_il
theorem s_63_58 : S63 58 (ia_add 59) := sa_n (snd_iadd dX0_could_2_58 rfl) on_add
theorem s_63_59 : S63 59 (ia_ldI 60 100) := sa_n (snd_iaload dX0_could_2_59 rfl) on_ldI
theorem s_63_60 : S63 60 (ia_retI) := sa_t (st_retI dX0_could_2_60 rfl) on_retI
theorem sa_63 (pc : Nat) : S63 pc (cd_63 pc) := sa_c (sa_c (sa_c (sa_c (sa_c (sa_l s_63_0) (sa_l s_63_1)) (sa_c (sa_l s_63_4) (sa_l s_63_7))) (sa_c (sa_c (sa_l s_63_8) (sa_l s_63_11)) (sa_c (sa_l s_63_14) (sa_l s_63_15)))) (sa_c (sa_c (sa_c (sa_l s_63_18) (sa_l s_63_19)) (sa_c (sa_l s_63_22) (sa_l s_63_23))) (sa_c (sa_c (sa_l s_63_26) (sa_l s_63_27)) (sa_c (sa_l s_63_30) (sa_l s_63_31))))) (sa_c (sa_c (sa_c (sa_c (sa_l s_63_32) (sa_l s_63_33)) (sa_c (sa_l s_63_36) (sa_l s_63_37))) (sa_c (sa_c (sa_l s_63_40) (sa_l s_63_43)) (sa_c (sa_l s_63_44) (sa_l s_63_47)))) (sa_c (sa_c (sa_c (sa_l s_63_48) (sa_l s_63_51)) (sa_c (sa_l s_63_54) (sa_l s_63_55))) (sa_c (sa_c (sa_l s_63_56) (sa_l s_63_57)) (sa_c (sa_l s_63_58) (sa_c (sa_l s_63_59) (sa_l s_63_60))))))
abbrev S64 (pc : Nat) (x : XI) : Prop := SA "WeekFoot" cX0_when 7 "when" (some .int) pc x
theorem s_64_0 : S64 0 (ia_il 1 1) := sa_n (snd_iload_n dX0_when_0 rfl rfl) on_il
theorem s_64_1 : S64 1 (ia_stat 4 1 12 1) := sk_S me_12 q331 dX0_when_1 rfl
theorem s_64_4 : S64 4 (ia_if k0e 7 29) := sa_b (sndB_if_eq dX0_when_4 rfl rfl) on_if
theorem s_64_7 : S64 7 (ia_il 8 2) := sa_n (snd_iload_n dX0_when_7 rfl rfl) on_il
theorem s_64_8 : S64 8 (ia_k 9 0) := sa_n (snd_iconst dX0_when_8 rfl (okI_c rfl) rfl) on_k
theorem s_64_9 : S64 9 (ia_k 10 2) := sa_n (snd_iconst dX0_when_9 rfl (okI_c rfl) rfl) on_k
theorem s_64_10 : S64 10 (ia_stat 13 3 2 3) := sk_S me_2 q138 dX0_when_10 rfl
theorem s_64_13 : S64 13 (ia_if k0e 16 29) := sa_b (sndB_if_eq dX0_when_13 rfl rfl) on_if
theorem s_64_16 : S64 16 (ia_al 17 0) := sa_n (snd_aload_n dX0_when_16 rfl rfl) on_al
theorem s_64_17 : S64 17 (ia_gfR 20 1 4) := sa_n (snd_gfR ci_1 (k := 4) (lt_c rfl) dX0_when_17 (Or.inl q883) (Or.inl rfl) (fun _ _ _ _ => rfl) rfl rfl) on_gfR
theorem s_64_20 : S64 20 (ia_gfR 23 3 1) := sa_n (snd_gfR ci_3 (k := 1) (lt_c rfl) dX0_when_20 (Or.inr ⟨_, q192⟩) (Or.inl rfl) (fun _ _ _ _ => rfl) rfl rfl) on_gfR
theorem s_64_23 : S64 23 (ia_il 24 1) := sa_n (snd_iload_n dX0_when_23 rfl rfl) on_il
theorem s_64_24 : S64 24 (ia_ldI 25 100) := sa_n (snd_iaload dX0_when_24 rfl) on_ldI
theorem s_64_25 : S64 25 (ia_k 26 (-1)) := sa_n (snd_iconst dX0_when_25 rfl (okI_c rfl) rfl) on_k
theorem s_64_26 : S64 26 (ia_ic k2e 29 31) := sa_b (sndB_ic_eq dX0_when_26 rfl rfl) on_ic
theorem s_64_29 : S64 29 (ia_k 30 (-1)) := sa_n (snd_iconst dX0_when_29 rfl (okI_c rfl) rfl) on_k
theorem s_64_30 : S64 30 (ia_retI) := sa_t (st_retI dX0_when_30 rfl) on_retI
theorem s_64_31 : S64 31 (ia_k 32 0) := sa_n (snd_iconst dX0_when_31 rfl (okI_c rfl) rfl) on_k
theorem s_64_32 : S64 32 (ia_is 33 3) := sa_n (snd_istore_n dX0_when_32 rfl (lt_c rfl) rfl) on_is
theorem s_64_33 : S64 33 (ia_k 34 (-1)) := sa_n (snd_iconst dX0_when_33 rfl (okI_c rfl) rfl) on_k
theorem s_64_34 : S64 34 (ia_is 36 4) := sa_n (snd_istore dX0_when_34 (lt_c rfl) rfl) on_is
theorem s_64_36 : S64 36 (ia_k 37 (-1)) := sa_n (snd_iconst dX0_when_36 rfl (okI_c rfl) rfl) on_k
theorem s_64_37 : S64 37 (ia_is 39 5) := sa_n (snd_istore dX0_when_37 (lt_c rfl) rfl) on_is
theorem s_64_39 : S64 39 (ia_k 40 1) := sa_n (snd_iconst dX0_when_39 rfl (okI_c rfl) rfl) on_k
theorem s_64_40 : S64 40 (ia_is 42 6) := sa_n (snd_istore dX0_when_40 (lt_c rfl) rfl) on_is
theorem s_64_42 : S64 42 (ia_keep [0, 1, 2, 3, 4, 5, 6] (ia_il 44 6)) := sa_nk (snd_iload dX0_when_42 rfl) on_il
theorem s_64_44 : S64 44 (ia_k 46 32) := sa_n (snd_bipush dX0_when_44 (by decide) (okI_c rfl) rfl) on_k
theorem s_64_46 : S64 46 (ia_ic k2g 49 104) := sa_b (sndB_ic_ge dX0_when_46 rfl rfl) on_ic
theorem s_64_49 : S64 49 (ia_al 50 0) := sa_n (snd_aload_n dX0_when_49 rfl rfl) on_al
theorem s_64_50 : S64 50 (ia_gfR 53 1 12) := sa_n (snd_gfR ci_1 (k := 12) (lt_c rfl) dX0_when_50 (Or.inl q894) (Or.inl rfl) (fun _ _ _ _ => rfl) rfl rfl) on_gfR
theorem s_64_53 : S64 53 (ia_al 54 0) := sa_n (snd_aload_n dX0_when_53 rfl rfl) on_al
theorem s_64_54 : S64 54 (ia_call 57 1 1 28 3) := sk_V me_28 q1181 dX0_when_54 rfl
theorem s_64_57 : S64 57 (ia_al 58 0) := sa_n (snd_aload_n dX0_when_57 rfl rfl) on_al
theorem s_64_58 : S64 58 (ia_gfR 61 1 4) := sa_n (snd_gfR ci_1 (k := 4) (lt_c rfl) dX0_when_58 (Or.inl q883) (Or.inl rfl) (fun _ _ _ _ => rfl) rfl rfl) on_gfR
theorem s_64_61 : S64 61 (ia_gfR 64 3 0) := sa_n (snd_gfR ci_3 (k := 0) (lt_c rfl) dX0_when_61 (Or.inr ⟨_, q188⟩) (Or.inl rfl) (fun _ _ _ _ => rfl) rfl rfl) on_gfR
theorem s_64_64 : S64 64 (ia_il 65 1) := sa_n (snd_iload_n dX0_when_64 rfl rfl) on_il
theorem s_64_65 : S64 65 (ia_il 67 6) := sa_n (snd_iload dX0_when_65 rfl) on_il
theorem s_64_67 : S64 67 (ia_call 70 5 4 89 6) := sk_V me_89 q1180 dX0_when_67 rfl
theorem s_64_70 : S64 70 (ia_if k0n 73 76) := sa_b (sndB_if_ne dX0_when_70 rfl rfl) on_if
theorem s_64_73 : S64 73 (ia_go 98) := sa_n (snd_goto dX0_when_73 rfl) on_go
theorem s_64_76 : S64 76 (ia_inc 79 3 1) := sa_n (snd_iinc dX0_when_76 rfl (lt_c rfl) rfl) on_inc
theorem s_64_79 : S64 79 (ia_il 81 4) := sa_n (snd_iload dX0_when_79 rfl) on_il
theorem s_64_81 : S64 81 (ia_k 82 (-1)) := sa_n (snd_iconst dX0_when_81 rfl (okI_c rfl) rfl) on_k
theorem s_64_82 : S64 82 (ia_ic k2n 85 90) := sa_b (sndB_ic_ne dX0_when_82 rfl rfl) on_ic
theorem s_64_85 : S64 85 (ia_il 87 6) := sa_n (snd_iload dX0_when_85 rfl) on_il
theorem s_64_87 : S64 87 (ia_go 92) := sa_n (snd_goto dX0_when_87 rfl) on_go
theorem s_64_90 : S64 90 (ia_il 92 4) := sa_n (snd_iload dX0_when_90 rfl) on_il
theorem s_64_92 : S64 92 (ia_is 94 4) := sa_n (snd_istore dX0_when_92 (lt_c rfl) rfl) on_is
theorem s_64_94 : S64 94 (ia_il 96 6) := sa_n (snd_iload dX0_when_94 rfl) on_il
theorem s_64_96 : S64 96 (ia_is 98 5) := sa_n (snd_istore dX0_when_96 (lt_c rfl) rfl) on_is
theorem s_64_98 : S64 98 (ia_inc 101 6 1) := sa_n (snd_iinc dX0_when_98 rfl (lt_c rfl) rfl) on_inc
theorem s_64_101 : S64 101 (ia_go 42) := sa_n (snd_goto dX0_when_101 rfl) on_go
theorem s_64_104 : S64 104 (ia_il 105 2) := sa_n (snd_iload_n dX0_when_104 rfl rfl) on_il
theorem s_64_105 : S64 105 (ia_if k0n 108 112) := sa_b (sndB_if_ne dX0_when_105 rfl rfl) on_if
theorem s_64_108 : S64 108 (ia_il 109 3) := sa_n (snd_iload_n dX0_when_108 rfl rfl) on_il
theorem s_64_109 : S64 109 (ia_go 124) := sa_n (snd_goto dX0_when_109 rfl) on_go
theorem s_64_112 : S64 112 (ia_il 113 2) := sa_n (snd_iload_n dX0_when_112 rfl rfl) on_il
theorem s_64_113 : S64 113 (ia_k 114 1) := sa_n (snd_iconst dX0_when_113 rfl (okI_c rfl) rfl) on_k
theorem s_64_114 : S64 114 (ia_ic k2n 117 122) := sa_b (sndB_ic_ne dX0_when_114 rfl rfl) on_ic
theorem s_64_117 : S64 117 (ia_il 119 4) := sa_n (snd_iload dX0_when_117 rfl) on_il
theorem s_64_119 : S64 119 (ia_go 124) := sa_n (snd_goto dX0_when_119 rfl) on_go
theorem s_64_122 : S64 122 (ia_il 124 5) := sa_n (snd_iload dX0_when_122 rfl) on_il
theorem s_64_124 : S64 124 (ia_retI) := sa_t (st_retI dX0_when_124 rfl) on_retI
theorem sa_64 (pc : Nat) : S64 pc (cd_64 pc) := sa_c (sa_c (sa_c (sa_c (sa_c (sa_l s_64_0) (sa_c (sa_l s_64_1) (sa_l s_64_4))) (sa_c (sa_c (sa_l s_64_7) (sa_l s_64_8)) (sa_c (sa_l s_64_9) (sa_l s_64_10)))) (sa_c (sa_c (sa_c (sa_l s_64_13) (sa_l s_64_16)) (sa_c (sa_l s_64_17) (sa_l s_64_20))) (sa_c (sa_c (sa_l s_64_23) (sa_l s_64_24)) (sa_c (sa_l s_64_25) (sa_l s_64_26))))) (sa_c (sa_c (sa_c (sa_c (sa_l s_64_29) (sa_l s_64_30)) (sa_c (sa_l s_64_31) (sa_l s_64_32))) (sa_c (sa_c (sa_l s_64_33) (sa_l s_64_34)) (sa_c (sa_l s_64_36) (sa_l s_64_37)))) (sa_c (sa_c (sa_c (sa_l s_64_39) (sa_l s_64_40)) (sa_c (sa_l s_64_42) (sa_l s_64_44))) (sa_c (sa_c (sa_l s_64_46) (sa_l s_64_49)) (sa_c (sa_l s_64_50) (sa_l s_64_53)))))) (sa_c (sa_c (sa_c (sa_c (sa_c (sa_l s_64_54) (sa_l s_64_57)) (sa_c (sa_l s_64_58) (sa_l s_64_61))) (sa_c (sa_c (sa_l s_64_64) (sa_l s_64_65)) (sa_c (sa_l s_64_67) (sa_l s_64_70)))) (sa_c (sa_c (sa_c (sa_l s_64_73) (sa_l s_64_76)) (sa_c (sa_l s_64_79) (sa_l s_64_81))) (sa_c (sa_c (sa_l s_64_82) (sa_l s_64_85)) (sa_c (sa_l s_64_87) (sa_l s_64_90))))) (sa_c (sa_c (sa_c (sa_c (sa_l s_64_92) (sa_l s_64_94)) (sa_c (sa_l s_64_96) (sa_l s_64_98))) (sa_c (sa_c (sa_l s_64_101) (sa_l s_64_104)) (sa_c (sa_l s_64_105) (sa_l s_64_108)))) (sa_c (sa_c (sa_c (sa_l s_64_109) (sa_l s_64_112)) (sa_c (sa_l s_64_113) (sa_l s_64_114))) (sa_c (sa_c (sa_l s_64_117) (sa_l s_64_119)) (sa_c (sa_l s_64_122) (sa_l s_64_124))))))
abbrev S65 (pc : Nat) (x : XI) : Prop := SA "WeekFoot" cX0_tell 3 "tell" (some .int) pc x
theorem s_65_0 : S65 0 (ia_il 1 1) := sa_n (snd_iload_n dX0_tell_0 rfl rfl) on_il
theorem s_65_1 : S65 1 (ia_k 2 0) := sa_n (snd_iconst dX0_tell_1 rfl (okI_c rfl) rfl) on_k
theorem s_65_2 : S65 2 (ia_k 4 15) := sa_n (snd_bipush dX0_tell_2 (by decide) (okI_c rfl) rfl) on_k
theorem s_65_4 : S65 4 (ia_stat 7 3 2 3) := sk_S me_2 q138 dX0_tell_4 rfl
theorem s_65_7 : S65 7 (ia_if k0e 10 37) := sa_b (sndB_if_eq dX0_tell_7 rfl rfl) on_if
theorem s_65_10 : S65 10 (ia_il 11 2) := sa_n (snd_iload_n dX0_tell_10 rfl rfl) on_il
theorem s_65_11 : S65 11 (ia_k 12 1) := sa_n (snd_iconst dX0_tell_11 rfl (okI_c rfl) rfl) on_k
theorem s_65_12 : S65 12 (ia_k 15 9999) := sa_n (snd_sipush dX0_tell_12 (by decide) (okI_c rfl) rfl) on_k
theorem s_65_15 : S65 15 (ia_stat 18 3 2 3) := sk_S me_2 q138 dX0_tell_15 rfl
theorem s_65_18 : S65 18 (ia_if k0e 21 37) := sa_b (sndB_if_eq dX0_tell_18 rfl rfl) on_if
theorem s_65_21 : S65 21 (ia_al 22 0) := sa_n (snd_aload_n dX0_tell_21 rfl rfl) on_al
theorem s_65_22 : S65 22 (ia_al 23 0) := sa_n (snd_aload_n dX0_tell_22 rfl rfl) on_al
theorem s_65_23 : S65 23 (ia_gfR 26 1 4) := sa_n (snd_gfR ci_1 (k := 4) (lt_c rfl) dX0_tell_23 (Or.inl q883) (Or.inl rfl) (fun _ _ _ _ => rfl) rfl rfl) on_gfR
theorem s_65_26 : S65 26 (ia_gfR 29 3 3) := sa_n (snd_gfR ci_3 (k := 3) (lt_c rfl) dX0_tell_26 (Or.inr ⟨_, q199⟩) (Or.inl rfl) (fun _ _ _ _ => rfl) rfl rfl) on_gfR
theorem s_65_29 : S65 29 (ia_il 30 1) := sa_n (snd_iload_n dX0_tell_29 rfl rfl) on_il
theorem s_65_30 : S65 30 (ia_il 31 2) := sa_n (snd_iload_n dX0_tell_30 rfl rfl) on_il
theorem s_65_31 : S65 31 (ia_call 34 4 1 10 5) := sk_V me_10 q323 dX0_tell_31 rfl
theorem s_65_34 : S65 34 (ia_go 42) := sa_n (snd_goto dX0_tell_34 rfl) on_go
theorem s_65_37 : S65 37 (ia_al 38 0) := sa_n (snd_aload_n dX0_tell_37 rfl rfl) on_al
theorem s_65_38 : S65 38 (ia_k 39 (-1)) := sa_n (snd_iconst dX0_tell_38 rfl (okI_c rfl) rfl) on_k
theorem s_65_39 : S65 39 (ia_call 42 2 1 3 2) := sk_V me_3 q141 dX0_tell_39 rfl
theorem s_65_42 : S65 42 (ia_retI) := sa_t (st_retI dX0_tell_42 rfl) on_retI
theorem sa_65 (pc : Nat) : S65 pc (cd_65 pc) := sa_c (sa_c (sa_c (sa_c (sa_l s_65_0) (sa_l s_65_1)) (sa_c (sa_l s_65_2) (sa_c (sa_l s_65_4) (sa_l s_65_7)))) (sa_c (sa_c (sa_l s_65_10) (sa_c (sa_l s_65_11) (sa_l s_65_12))) (sa_c (sa_l s_65_15) (sa_c (sa_l s_65_18) (sa_l s_65_21))))) (sa_c (sa_c (sa_c (sa_l s_65_22) (sa_l s_65_23)) (sa_c (sa_l s_65_26) (sa_c (sa_l s_65_29) (sa_l s_65_30)))) (sa_c (sa_c (sa_l s_65_31) (sa_c (sa_l s_65_34) (sa_l s_65_37))) (sa_c (sa_l s_65_38) (sa_c (sa_l s_65_39) (sa_l s_65_42)))))
abbrev S66 (pc : Nat) (x : XI) : Prop := SA "WeekFoot" cX0_says 4 "says" (some .int) pc x
theorem s_66_0 : S66 0 (ia_il 1 1) := sa_n (snd_iload_n dX0_says_0 rfl rfl) on_il
theorem s_66_1 : S66 1 (ia_k 2 0) := sa_n (snd_iconst dX0_says_1 rfl (okI_c rfl) rfl) on_k
theorem s_66_2 : S66 2 (ia_k 4 11) := sa_n (snd_bipush dX0_says_2 (by decide) (okI_c rfl) rfl) on_k
theorem s_66_4 : S66 4 (ia_stat 7 3 2 3) := sk_S me_2 q138 dX0_says_4 rfl
theorem s_66_7 : S66 7 (ia_if k0e 10 54) := sa_b (sndB_if_eq dX0_says_7 rfl rfl) on_if
theorem s_66_10 : S66 10 (ia_il 11 2) := sa_n (snd_iload_n dX0_says_10 rfl rfl) on_il
theorem s_66_11 : S66 11 (ia_stat 14 1 9 1) := sk_S me_9 q320 dX0_says_11 rfl
theorem s_66_14 : S66 14 (ia_if k0e 17 54) := sa_b (sndB_if_eq dX0_says_14 rfl rfl) on_if
theorem s_66_17 : S66 17 (ia_il 18 3) := sa_n (snd_iload_n dX0_says_17 rfl rfl) on_il
theorem s_66_18 : S66 18 (ia_k 19 0) := sa_n (snd_iconst dX0_says_18 rfl (okI_c rfl) rfl) on_k
theorem s_66_19 : S66 19 (ia_k 20 2) := sa_n (snd_iconst dX0_says_19 rfl (okI_c rfl) rfl) on_k
theorem s_66_20 : S66 20 (ia_stat 23 3 2 3) := sk_S me_2 q138 dX0_says_20 rfl
theorem s_66_23 : S66 23 (ia_if k0e 26 54) := sa_b (sndB_if_eq dX0_says_23 rfl rfl) on_if
theorem s_66_26 : S66 26 (ia_al 27 0) := sa_n (snd_aload_n dX0_says_26 rfl rfl) on_al
theorem s_66_27 : S66 27 (ia_gfR 30 1 4) := sa_n (snd_gfR ci_1 (k := 4) (lt_c rfl) dX0_says_27 (Or.inl q883) (Or.inl rfl) (fun _ _ _ _ => rfl) rfl rfl) on_gfR
theorem s_66_30 : S66 30 (ia_gfR 33 3 3) := sa_n (snd_gfR ci_3 (k := 3) (lt_c rfl) dX0_says_30 (Or.inr ⟨_, q199⟩) (Or.inl rfl) (fun _ _ _ _ => rfl) rfl rfl) on_gfR
theorem s_66_33 : S66 33 (ia_il 34 1) := sa_n (snd_iload_n dX0_says_33 rfl rfl) on_il
theorem s_66_34 : S66 34 (ia_ldI 35 100) := sa_n (snd_iaload dX0_says_34 rfl) on_ldI
theorem s_66_35 : S66 35 (ia_al 36 0) := sa_n (snd_aload_n dX0_says_35 rfl rfl) on_al
theorem s_66_36 : S66 36 (ia_gfR 39 1 4) := sa_n (snd_gfR ci_1 (k := 4) (lt_c rfl) dX0_says_36 (Or.inl q883) (Or.inl rfl) (fun _ _ _ _ => rfl) rfl rfl) on_gfR
theorem s_66_39 : S66 39 (ia_gfR 42 3 3) := sa_n (snd_gfR ci_3 (k := 3) (lt_c rfl) dX0_says_39 (Or.inr ⟨_, q199⟩) (Or.inl rfl) (fun _ _ _ _ => rfl) rfl rfl) on_gfR
theorem s_66_42 : S66 42 (ia_k 44 12) := sa_n (snd_bipush dX0_says_42 (by decide) (okI_c rfl) rfl) on_k
theorem s_66_44 : S66 44 (ia_il 45 2) := sa_n (snd_iload_n dX0_says_44 rfl rfl) on_il
theorem s_66_45 : S66 45 (ia_add 46) := sa_n (snd_iadd dX0_says_45 rfl) on_add
theorem s_66_46 : S66 46 (ia_ldI 47 100) := sa_n (snd_iaload dX0_says_46 rfl) on_ldI
theorem s_66_47 : S66 47 (ia_il 48 3) := sa_n (snd_iload_n dX0_says_47 rfl rfl) on_il
theorem s_66_48 : S66 48 (ia_stat 51 3 67 3) := sk_S me_67 q1235 dX0_says_48 rfl
theorem s_66_51 : S66 51 (ia_go 55) := sa_n (snd_goto dX0_says_51 rfl) on_go
theorem s_66_54 : S66 54 (ia_k 55 (-1)) := sa_n (snd_iconst dX0_says_54 rfl (okI_c rfl) rfl) on_k
theorem s_66_55 : S66 55 (ia_retI) := sa_t (st_retI dX0_says_55 rfl) on_retI
theorem sa_66 (pc : Nat) : S66 pc (cd_66 pc) := sa_c (sa_c (sa_c (sa_c (sa_l s_66_0) (sa_c (sa_l s_66_1) (sa_l s_66_2))) (sa_c (sa_c (sa_l s_66_4) (sa_l s_66_7)) (sa_c (sa_l s_66_10) (sa_l s_66_11)))) (sa_c (sa_c (sa_c (sa_l s_66_14) (sa_l s_66_17)) (sa_c (sa_l s_66_18) (sa_l s_66_19))) (sa_c (sa_c (sa_l s_66_20) (sa_l s_66_23)) (sa_c (sa_l s_66_26) (sa_l s_66_27))))) (sa_c (sa_c (sa_c (sa_l s_66_30) (sa_c (sa_l s_66_33) (sa_l s_66_34))) (sa_c (sa_c (sa_l s_66_35) (sa_l s_66_36)) (sa_c (sa_l s_66_39) (sa_l s_66_42)))) (sa_c (sa_c (sa_c (sa_l s_66_44) (sa_l s_66_45)) (sa_c (sa_l s_66_46) (sa_l s_66_47))) (sa_c (sa_c (sa_l s_66_48) (sa_l s_66_51)) (sa_c (sa_l s_66_54) (sa_l s_66_55)))))
abbrev S67 (pc : Nat) (x : XI) : Prop := SA "WeekFoot" cX0_saysOf 3 "saysOf" (some .int) pc x
theorem s_67_0 : S67 0 (ia_il 1 2) := sa_n (snd_iload_n dX0_saysOf_0 rfl rfl) on_il
theorem s_67_1 : S67 1 (ia_if k0n 4 13) := sa_b (sndB_if_ne dX0_saysOf_1 rfl rfl) on_if
theorem s_67_4 : S67 4 (ia_k 6 100) := sa_n (snd_bipush dX0_saysOf_4 (by decide) (okI_c rfl) rfl) on_k
theorem s_67_6 : S67 6 (ia_il 7 0) := sa_n (snd_iload_n dX0_saysOf_6 rfl rfl) on_il
theorem s_67_7 : S67 7 (ia_mul 8) := sa_n (snd_imul dX0_saysOf_7 rfl) on_mul
theorem s_67_8 : S67 8 (ia_il 9 1) := sa_n (snd_iload_n dX0_saysOf_8 rfl rfl) on_il
theorem s_67_9 : S67 9 (ia_div 10) := sa_n (snd_idiv dX0_saysOf_9 rfl) on_div
theorem s_67_10 : S67 10 (ia_go 33) := sa_n (snd_goto dX0_saysOf_10 rfl) on_go
theorem s_67_13 : S67 13 (ia_il 14 2) := sa_n (snd_iload_n dX0_saysOf_13 rfl rfl) on_il
theorem s_67_14 : S67 14 (ia_k 15 1) := sa_n (snd_iconst dX0_saysOf_14 rfl (okI_c rfl) rfl) on_k
theorem s_67_15 : S67 15 (ia_ic k2n 18 24) := sa_b (sndB_ic_ne dX0_saysOf_15 rfl rfl) on_ic
theorem s_67_18 : S67 18 (ia_il 19 0) := sa_n (snd_iload_n dX0_saysOf_18 rfl rfl) on_il
theorem s_67_19 : S67 19 (ia_il 20 1) := sa_n (snd_iload_n dX0_saysOf_19 rfl rfl) on_il
theorem s_67_20 : S67 20 (ia_div 21) := sa_n (snd_idiv dX0_saysOf_20 rfl) on_div
theorem s_67_21 : S67 21 (ia_go 33) := sa_n (snd_goto dX0_saysOf_21 rfl) on_go
theorem s_67_24 : S67 24 (ia_k 25 2) := sa_n (snd_iconst dX0_saysOf_24 rfl (okI_c rfl) rfl) on_k
theorem s_67_25 : S67 25 (ia_il 26 0) := sa_n (snd_iload_n dX0_saysOf_25 rfl rfl) on_il
theorem s_67_26 : S67 26 (ia_mul 27) := sa_n (snd_imul dX0_saysOf_26 rfl) on_mul
theorem s_67_27 : S67 27 (ia_il 28 1) := sa_n (snd_iload_n dX0_saysOf_27 rfl rfl) on_il
theorem s_67_28 : S67 28 (ia_add 29) := sa_n (snd_iadd dX0_saysOf_28 rfl) on_add
theorem s_67_29 : S67 29 (ia_k 30 2) := sa_n (snd_iconst dX0_saysOf_29 rfl (okI_c rfl) rfl) on_k
theorem s_67_30 : S67 30 (ia_il 31 1) := sa_n (snd_iload_n dX0_saysOf_30 rfl rfl) on_il
theorem s_67_31 : S67 31 (ia_mul 32) := sa_n (snd_imul dX0_saysOf_31 rfl) on_mul
theorem s_67_32 : S67 32 (ia_div 33) := sa_n (snd_idiv dX0_saysOf_32 rfl) on_div
theorem s_67_33 : S67 33 (ia_retI) := sa_t (st_retI dX0_saysOf_33 rfl) on_retI
theorem sa_67 (pc : Nat) : S67 pc (cd_67 pc) := sa_c (sa_c (sa_c (sa_c (sa_l s_67_0) (sa_c (sa_l s_67_1) (sa_l s_67_4))) (sa_c (sa_l s_67_6) (sa_c (sa_l s_67_7) (sa_l s_67_8)))) (sa_c (sa_c (sa_l s_67_9) (sa_c (sa_l s_67_10) (sa_l s_67_13))) (sa_c (sa_l s_67_14) (sa_c (sa_l s_67_15) (sa_l s_67_18))))) (sa_c (sa_c (sa_c (sa_l s_67_19) (sa_c (sa_l s_67_20) (sa_l s_67_21))) (sa_c (sa_l s_67_24) (sa_c (sa_l s_67_25) (sa_l s_67_26)))) (sa_c (sa_c (sa_l s_67_27) (sa_c (sa_l s_67_28) (sa_l s_67_29))) (sa_c (sa_c (sa_l s_67_30) (sa_l s_67_31)) (sa_c (sa_l s_67_32) (sa_l s_67_33)))))
abbrev S68 (pc : Nat) (x : XI) : Prop := SA "WeekFoot" cX0_judge 6 "judge" (some .int) pc x
theorem s_68_0 : S68 0 (ia_il 1 1) := sa_n (snd_iload_n dX0_judge_0 rfl rfl) on_il
theorem s_68_1 : S68 1 (ia_k 2 0) := sa_n (snd_iconst dX0_judge_1 rfl (okI_c rfl) rfl) on_k
theorem s_68_2 : S68 2 (ia_k 3 2) := sa_n (snd_iconst dX0_judge_2 rfl (okI_c rfl) rfl) on_k
theorem s_68_3 : S68 3 (ia_stat 6 3 2 3) := sk_S me_2 q138 dX0_judge_3 rfl
theorem s_68_6 : S68 6 (ia_if k0n 9 11) := sa_b (sndB_if_ne dX0_judge_6 rfl rfl) on_if
theorem s_68_9 : S68 9 (ia_k 10 (-1)) := sa_n (snd_iconst dX0_judge_9 rfl (okI_c rfl) rfl) on_k
theorem s_68_10 : S68 10 (ia_retI) := sa_t (st_retI dX0_judge_10 rfl) on_retI
theorem s_68_11 : S68 11 (ia_k 12 (-1)) := sa_n (snd_iconst dX0_judge_11 rfl (okI_c rfl) rfl) on_k
theorem s_68_12 : S68 12 (ia_is 13 2) := sa_n (snd_istore_n dX0_judge_12 rfl (lt_c rfl) rfl) on_is
theorem s_68_13 : S68 13 (ia_k 14 0) := sa_n (snd_iconst dX0_judge_13 rfl (okI_c rfl) rfl) on_k
theorem s_68_14 : S68 14 (ia_is 15 3) := sa_n (snd_istore_n dX0_judge_14 rfl (lt_c rfl) rfl) on_is
theorem s_68_15 : S68 15 (ia_k 16 0) := sa_n (snd_iconst dX0_judge_15 rfl (okI_c rfl) rfl) on_k
theorem s_68_16 : S68 16 (ia_is 18 4) := sa_n (snd_istore dX0_judge_16 (lt_c rfl) rfl) on_is
theorem s_68_18 : S68 18 (ia_keep [0, 1, 2, 3, 4] (ia_il 20 4)) := sa_nk (snd_iload dX0_judge_18 rfl) on_il
theorem s_68_20 : S68 20 (ia_al 21 0) := sa_n (snd_aload_n dX0_judge_20 rfl rfl) on_al
theorem s_68_21 : S68 21 (ia_gfR 24 1 4) := sa_n (snd_gfR ci_1 (k := 4) (lt_c rfl) dX0_judge_21 (Or.inl q883) (Or.inl rfl) (fun _ _ _ _ => rfl) rfl rfl) on_gfR
theorem s_68_24 : S68 24 (ia_gfR 27 3 5) := sa_n (snd_gfR ci_3 (k := 5) (lt_c rfl) dX0_judge_24 (Or.inr ⟨_, q207⟩) (Or.inl rfl) (fun _ _ _ _ => rfl) rfl rfl) on_gfR
theorem s_68_27 : S68 27 (ia_call 30 1 16 254 1) := sk_V me_254 q353 dX0_judge_27 rfl
theorem s_68_30 : S68 30 (ia_ic k2g 33 66) := sa_b (sndB_ic_ge dX0_judge_30 rfl rfl) on_ic
theorem s_68_33 : S68 33 (ia_al 34 0) := sa_n (snd_aload_n dX0_judge_33 rfl rfl) on_al
theorem s_68_34 : S68 34 (ia_il 36 4) := sa_n (snd_iload dX0_judge_34 rfl) on_il
theorem s_68_36 : S68 36 (ia_call 39 2 1 69 3) := sk_V me_69 q1242 dX0_judge_36 rfl
theorem s_68_39 : S68 39 (ia_if k0e 42 45) := sa_b (sndB_if_eq dX0_judge_39 rfl rfl) on_if
theorem s_68_42 : S68 42 (ia_go 60) := sa_n (snd_goto dX0_judge_42 rfl) on_go
theorem s_68_45 : S68 45 (ia_il 46 2) := sa_n (snd_iload_n dX0_judge_45 rfl rfl) on_il
theorem s_68_46 : S68 46 (ia_k 47 (-1)) := sa_n (snd_iconst dX0_judge_46 rfl (okI_c rfl) rfl) on_k
theorem s_68_47 : S68 47 (ia_ic k2n 50 55) := sa_b (sndB_ic_ne dX0_judge_47 rfl rfl) on_ic
theorem s_68_50 : S68 50 (ia_il 52 4) := sa_n (snd_iload dX0_judge_50 rfl) on_il
theorem s_68_52 : S68 52 (ia_go 56) := sa_n (snd_goto dX0_judge_52 rfl) on_go
theorem s_68_55 : S68 55 (ia_il 56 2) := sa_n (snd_iload_n dX0_judge_55 rfl rfl) on_il
theorem s_68_56 : S68 56 (ia_is 57 2) := sa_n (snd_istore_n dX0_judge_56 rfl (lt_c rfl) rfl) on_is
theorem s_68_57 : S68 57 (ia_inc 60 3 1) := sa_n (snd_iinc dX0_judge_57 rfl (lt_c rfl) rfl) on_inc
theorem s_68_60 : S68 60 (ia_inc 63 4 1) := sa_n (snd_iinc dX0_judge_60 rfl (lt_c rfl) rfl) on_inc
theorem s_68_63 : S68 63 (ia_go 18) := sa_n (snd_goto dX0_judge_63 rfl) on_go
theorem s_68_66 : S68 66 (ia_il 67 1) := sa_n (snd_iload_n dX0_judge_66 rfl rfl) on_il
theorem s_68_67 : S68 67 (ia_k 68 2) := sa_n (snd_iconst dX0_judge_67 rfl (okI_c rfl) rfl) on_k
theorem s_68_68 : S68 68 (ia_ic k2g 71 81) := sa_b (sndB_ic_ge dX0_judge_68 rfl rfl) on_ic
theorem s_68_71 : S68 71 (ia_il 72 1) := sa_n (snd_iload_n dX0_judge_71 rfl rfl) on_il
theorem s_68_72 : S68 72 (ia_if k0n 75 79) := sa_b (sndB_if_ne dX0_judge_72 rfl rfl) on_if
theorem s_68_75 : S68 75 (ia_il 76 2) := sa_n (snd_iload_n dX0_judge_75 rfl rfl) on_il
theorem s_68_76 : S68 76 (ia_go 80) := sa_n (snd_goto dX0_judge_76 rfl) on_go
theorem s_68_79 : S68 79 (ia_il 80 3) := sa_n (snd_iload_n dX0_judge_79 rfl rfl) on_il
theorem s_68_80 : S68 80 (ia_retI) := sa_t (st_retI dX0_judge_80 rfl) on_retI
theorem s_68_81 : S68 81 (ia_il 82 3) := sa_n (snd_iload_n dX0_judge_81 rfl rfl) on_il
theorem s_68_82 : S68 82 (ia_if k0n 85 89) := sa_b (sndB_if_ne dX0_judge_82 rfl rfl) on_if
theorem s_68_85 : S68 85 (ia_k 86 1) := sa_n (snd_iconst dX0_judge_85 rfl (okI_c rfl) rfl) on_k
theorem s_68_86 : S68 86 (ia_go 90) := sa_n (snd_goto dX0_judge_86 rfl) on_go
theorem s_68_89 : S68 89 (ia_k 90 0) := sa_n (snd_iconst dX0_judge_89 rfl (okI_c rfl) rfl) on_k
theorem s_68_90 : S68 90 (ia_is 92 4) := sa_n (snd_istore dX0_judge_90 (lt_c rfl) rfl) on_is
theorem s_68_92 : S68 92 (ia_k 93 0) := sa_n (snd_iconst dX0_judge_92 rfl (okI_c rfl) rfl) on_k
theorem s_68_93 : S68 93 (ia_is 95 5) := sa_n (snd_istore dX0_judge_93 (lt_c rfl) rfl) on_is
theorem s_68_95 : S68 95 (ia_keep [0, 4, 5] (ia_il 97 5)) := sa_nk (snd_iload dX0_judge_95 rfl) on_il
theorem s_68_97 : S68 97 (ia_al 98 0) := sa_n (snd_aload_n dX0_judge_97 rfl rfl) on_al
theorem s_68_98 : S68 98 (ia_gfR 101 1 4) := sa_n (snd_gfR ci_1 (k := 4) (lt_c rfl) dX0_judge_98 (Or.inl q883) (Or.inl rfl) (fun _ _ _ _ => rfl) rfl rfl) on_gfR
theorem s_68_101 : S68 101 (ia_gfI 104 3 6) := sa_n (snd_gfI ci_3 (k := 6) (lt_c rfl) dX0_judge_101 (Or.inr ⟨_, q211⟩) (Or.inl rfl) (fun _ _ _ _ => rfl) rfl rfl) on_gfI
theorem s_68_104 : S68 104 (ia_ic k2g 107 176) := sa_b (sndB_ic_ge dX0_judge_104 rfl rfl) on_ic
theorem s_68_107 : S68 107 (ia_il 109 4) := sa_n (snd_iload dX0_judge_107 rfl) on_il
theorem s_68_109 : S68 109 (ia_if k0e 112 167) := sa_b (sndB_if_eq dX0_judge_109 rfl rfl) on_if
theorem s_68_112 : S68 112 (ia_al 113 0) := sa_n (snd_aload_n dX0_judge_112 rfl rfl) on_al
theorem s_68_113 : S68 113 (ia_gfR 116 1 4) := sa_n (snd_gfR ci_1 (k := 4) (lt_c rfl) dX0_judge_113 (Or.inl q883) (Or.inl rfl) (fun _ _ _ _ => rfl) rfl rfl) on_gfR
theorem s_68_116 : S68 116 (ia_gfR 119 3 3) := sa_n (snd_gfR ci_3 (k := 3) (lt_c rfl) dX0_judge_116 (Or.inr ⟨_, q199⟩) (Or.inl rfl) (fun _ _ _ _ => rfl) rfl rfl) on_gfR
theorem s_68_119 : S68 119 (ia_k 121 12) := sa_n (snd_bipush dX0_judge_119 (by decide) (okI_c rfl) rfl) on_k
theorem s_68_121 : S68 121 (ia_al 122 0) := sa_n (snd_aload_n dX0_judge_121 rfl rfl) on_al
theorem s_68_122 : S68 122 (ia_gfR 125 1 4) := sa_n (snd_gfR ci_1 (k := 4) (lt_c rfl) dX0_judge_122 (Or.inl q883) (Or.inl rfl) (fun _ _ _ _ => rfl) rfl rfl) on_gfR
theorem s_68_125 : S68 125 (ia_gfR 128 3 2) := sa_n (snd_gfR ci_3 (k := 2) (lt_c rfl) dX0_judge_125 (Or.inr ⟨_, q196⟩) (Or.inl rfl) (fun _ _ _ _ => rfl) rfl rfl) on_gfR
theorem s_68_128 : S68 128 (ia_k 129 2) := sa_n (snd_iconst dX0_judge_128 rfl (okI_c rfl) rfl) on_k
theorem s_68_129 : S68 129 (ia_il 131 5) := sa_n (snd_iload dX0_judge_129 rfl) on_il
theorem s_68_131 : S68 131 (ia_mul 132) := sa_n (snd_imul dX0_judge_131 rfl) on_mul
theorem s_68_132 : S68 132 (ia_ldI 133 100) := sa_n (snd_iaload dX0_judge_132 rfl) on_ldI
theorem s_68_133 : S68 133 (ia_add 134) := sa_n (snd_iadd dX0_judge_133 rfl) on_add
theorem s_68_134 : S68 134 (ia_ldI 135 100) := sa_n (snd_iaload dX0_judge_134 rfl) on_ldI
theorem s_68_135 : S68 135 (ia_al 136 0) := sa_n (snd_aload_n dX0_judge_135 rfl rfl) on_al
theorem s_68_136 : S68 136 (ia_gfR 139 1 4) := sa_n (snd_gfR ci_1 (k := 4) (lt_c rfl) dX0_judge_136 (Or.inl q883) (Or.inl rfl) (fun _ _ _ _ => rfl) rfl rfl) on_gfR
theorem s_68_139 : S68 139 (ia_gfR 142 3 3) := sa_n (snd_gfR ci_3 (k := 3) (lt_c rfl) dX0_judge_139 (Or.inr ⟨_, q199⟩) (Or.inl rfl) (fun _ _ _ _ => rfl) rfl rfl) on_gfR
theorem s_68_142 : S68 142 (ia_k 144 12) := sa_n (snd_bipush dX0_judge_142 (by decide) (okI_c rfl) rfl) on_k
theorem s_68_144 : S68 144 (ia_al 145 0) := sa_n (snd_aload_n dX0_judge_144 rfl rfl) on_al
theorem s_68_145 : S68 145 (ia_gfR 148 1 4) := sa_n (snd_gfR ci_1 (k := 4) (lt_c rfl) dX0_judge_145 (Or.inl q883) (Or.inl rfl) (fun _ _ _ _ => rfl) rfl rfl) on_gfR
theorem s_68_148 : S68 148 (ia_gfR 151 3 2) := sa_n (snd_gfR ci_3 (k := 2) (lt_c rfl) dX0_judge_148 (Or.inr ⟨_, q196⟩) (Or.inl rfl) (fun _ _ _ _ => rfl) rfl rfl) on_gfR
theorem s_68_151 : S68 151 (ia_k 152 2) := sa_n (snd_iconst dX0_judge_151 rfl (okI_c rfl) rfl) on_k
theorem s_68_152 : S68 152 (ia_il 154 5) := sa_n (snd_iload dX0_judge_152 rfl) on_il
theorem s_68_154 : S68 154 (ia_mul 155) := sa_n (snd_imul dX0_judge_154 rfl) on_mul
theorem s_68_155 : S68 155 (ia_k 156 1) := sa_n (snd_iconst dX0_judge_155 rfl (okI_c rfl) rfl) on_k
theorem s_68_156 : S68 156 (ia_add 157) := sa_n (snd_iadd dX0_judge_156 rfl) on_add
theorem s_68_157 : S68 157 (ia_ldI 158 100) := sa_n (snd_iaload dX0_judge_157 rfl) on_ldI
theorem s_68_158 : S68 158 (ia_add 159) := sa_n (snd_iadd dX0_judge_158 rfl) on_add
theorem s_68_159 : S68 159 (ia_ldI 160 100) := sa_n (snd_iaload dX0_judge_159 rfl) on_ldI
theorem s_68_160 : S68 160 (ia_ic k2g 163 167) := sa_b (sndB_ic_ge dX0_judge_160 rfl rfl) on_ic
theorem s_68_163 : S68 163 (ia_k 164 1) := sa_n (snd_iconst dX0_judge_163 rfl (okI_c rfl) rfl) on_k
theorem s_68_164 : S68 164 (ia_go 168) := sa_n (snd_goto dX0_judge_164 rfl) on_go
theorem s_68_167 : S68 167 (ia_k 168 0) := sa_n (snd_iconst dX0_judge_167 rfl (okI_c rfl) rfl) on_k
theorem s_68_168 : S68 168 (ia_is 170 4) := sa_n (snd_istore dX0_judge_168 (lt_c rfl) rfl) on_is
theorem s_68_170 : S68 170 (ia_inc 173 5 1) := sa_n (snd_iinc dX0_judge_170 rfl (lt_c rfl) rfl) on_inc
theorem s_68_173 : S68 173 (ia_go 95) := sa_n (snd_goto dX0_judge_173 rfl) on_go
theorem s_68_176 : S68 176 (ia_k 177 0) := sa_n (snd_iconst dX0_judge_176 rfl (okI_c rfl) rfl) on_k
theorem s_68_177 : S68 177 (ia_is 179 5) := sa_n (snd_istore dX0_judge_177 (lt_c rfl) rfl) on_is
theorem s_68_179 : S68 179 (ia_keep [0, 4, 5] (ia_il 181 5)) := sa_nk (snd_iload dX0_judge_179 rfl) on_il
theorem s_68_181 : S68 181 (ia_k 183 6) := sa_n (snd_bipush dX0_judge_181 (by decide) (okI_c rfl) rfl) on_k
theorem s_68_183 : S68 183 (ia_ic k2g 186 244) := sa_b (sndB_ic_ge dX0_judge_183 rfl rfl) on_ic
theorem s_68_186 : S68 186 (ia_il 188 4) := sa_n (snd_iload dX0_judge_186 rfl) on_il
theorem s_68_188 : S68 188 (ia_if k0e 191 235) := sa_b (sndB_if_eq dX0_judge_188 rfl rfl) on_if
theorem s_68_191 : S68 191 (ia_al 192 0) := sa_n (snd_aload_n dX0_judge_191 rfl rfl) on_al
theorem s_68_192 : S68 192 (ia_gfR 195 1 4) := sa_n (snd_gfR ci_1 (k := 4) (lt_c rfl) dX0_judge_192 (Or.inl q883) (Or.inl rfl) (fun _ _ _ _ => rfl) rfl rfl) on_gfR
theorem s_68_195 : S68 195 (ia_gfR 198 3 1) := sa_n (snd_gfR ci_3 (k := 1) (lt_c rfl) dX0_judge_195 (Or.inr ⟨_, q192⟩) (Or.inl rfl) (fun _ _ _ _ => rfl) rfl rfl) on_gfR
theorem s_68_198 : S68 198 (ia_il 200 5) := sa_n (snd_iload dX0_judge_198 rfl) on_il
theorem s_68_200 : S68 200 (ia_ldI 201 100) := sa_n (snd_iaload dX0_judge_200 rfl) on_ldI
theorem s_68_201 : S68 201 (ia_k 202 (-1)) := sa_n (snd_iconst dX0_judge_201 rfl (okI_c rfl) rfl) on_k
theorem s_68_202 : S68 202 (ia_ic k2e 205 231) := sa_b (sndB_ic_eq dX0_judge_202 rfl rfl) on_ic
theorem s_68_205 : S68 205 (ia_al 206 0) := sa_n (snd_aload_n dX0_judge_205 rfl rfl) on_al
theorem s_68_206 : S68 206 (ia_gfR 209 1 4) := sa_n (snd_gfR ci_1 (k := 4) (lt_c rfl) dX0_judge_206 (Or.inl q883) (Or.inl rfl) (fun _ _ _ _ => rfl) rfl rfl) on_gfR
theorem s_68_209 : S68 209 (ia_gfR 212 3 3) := sa_n (snd_gfR ci_3 (k := 3) (lt_c rfl) dX0_judge_209 (Or.inr ⟨_, q199⟩) (Or.inl rfl) (fun _ _ _ _ => rfl) rfl rfl) on_gfR
theorem s_68_212 : S68 212 (ia_k 214 6) := sa_n (snd_bipush dX0_judge_212 (by decide) (okI_c rfl) rfl) on_k
theorem s_68_214 : S68 214 (ia_il 216 5) := sa_n (snd_iload dX0_judge_214 rfl) on_il
theorem s_68_216 : S68 216 (ia_add 217) := sa_n (snd_iadd dX0_judge_216 rfl) on_add
theorem s_68_217 : S68 217 (ia_ldI 218 100) := sa_n (snd_iaload dX0_judge_217 rfl) on_ldI
theorem s_68_218 : S68 218 (ia_al 219 0) := sa_n (snd_aload_n dX0_judge_218 rfl rfl) on_al
theorem s_68_219 : S68 219 (ia_gfR 222 1 4) := sa_n (snd_gfR ci_1 (k := 4) (lt_c rfl) dX0_judge_219 (Or.inl q883) (Or.inl rfl) (fun _ _ _ _ => rfl) rfl rfl) on_gfR
theorem s_68_222 : S68 222 (ia_gfR 225 3 3) := sa_n (snd_gfR ci_3 (k := 3) (lt_c rfl) dX0_judge_222 (Or.inr ⟨_, q199⟩) (Or.inl rfl) (fun _ _ _ _ => rfl) rfl rfl) on_gfR
theorem s_68_225 : S68 225 (ia_il 227 5) := sa_n (snd_iload dX0_judge_225 rfl) on_il
theorem s_68_227 : S68 227 (ia_ldI 228 100) := sa_n (snd_iaload dX0_judge_227 rfl) on_ldI
theorem s_68_228 : S68 228 (ia_ic k2G 231 235) := sa_b (sndB_ic_gt dX0_judge_228 rfl rfl) on_ic
theorem s_68_231 : S68 231 (ia_k 232 1) := sa_n (snd_iconst dX0_judge_231 rfl (okI_c rfl) rfl) on_k
theorem s_68_232 : S68 232 (ia_go 236) := sa_n (snd_goto dX0_judge_232 rfl) on_go
theorem s_68_235 : S68 235 (ia_k 236 0) := sa_n (snd_iconst dX0_judge_235 rfl (okI_c rfl) rfl) on_k
theorem s_68_236 : S68 236 (ia_is 238 4) := sa_n (snd_istore dX0_judge_236 (lt_c rfl) rfl) on_is
theorem s_68_238 : S68 238 (ia_inc 241 5 1) := sa_n (snd_iinc dX0_judge_238 rfl (lt_c rfl) rfl) on_inc
theorem s_68_241 : S68 241 (ia_go 179) := sa_n (snd_goto dX0_judge_241 rfl) on_go
theorem s_68_244 : S68 244 (ia_il 246 4) := sa_n (snd_iload dX0_judge_244 rfl) on_il
theorem s_68_246 : S68 246 (ia_if k0e 249 253) := sa_b (sndB_if_eq dX0_judge_246 rfl rfl) on_if
theorem s_68_249 : S68 249 (ia_k 250 1) := sa_n (snd_iconst dX0_judge_249 rfl (okI_c rfl) rfl) on_k
theorem s_68_250 : S68 250 (ia_go 254) := sa_n (snd_goto dX0_judge_250 rfl) on_go
theorem s_68_253 : S68 253 (ia_k 254 0) := sa_n (snd_iconst dX0_judge_253 rfl (okI_c rfl) rfl) on_k
theorem s_68_254 : S68 254 (ia_retI) := sa_t (st_retI dX0_judge_254 rfl) on_retI
theorem sa_68_0 (pc : Nat) : S68 pc (cd_68_0 pc) := sa_c (sa_c (sa_c (sa_c (sa_c (sa_l s_68_0) (sa_l s_68_1)) (sa_c (sa_l s_68_2) (sa_c (sa_l s_68_3) (sa_l s_68_6)))) (sa_c (sa_c (sa_l s_68_9) (sa_c (sa_l s_68_10) (sa_l s_68_11))) (sa_c (sa_l s_68_12) (sa_c (sa_l s_68_13) (sa_l s_68_14))))) (sa_c (sa_c (sa_c (sa_l s_68_15) (sa_l s_68_16)) (sa_c (sa_l s_68_18) (sa_c (sa_l s_68_20) (sa_l s_68_21)))) (sa_c (sa_c (sa_l s_68_24) (sa_c (sa_l s_68_27) (sa_l s_68_30))) (sa_c (sa_l s_68_33) (sa_c (sa_l s_68_34) (sa_l s_68_36)))))) (sa_c (sa_c (sa_c (sa_c (sa_l s_68_39) (sa_l s_68_42)) (sa_c (sa_l s_68_45) (sa_c (sa_l s_68_46) (sa_l s_68_47)))) (sa_c (sa_c (sa_l s_68_50) (sa_c (sa_l s_68_52) (sa_l s_68_55))) (sa_c (sa_l s_68_56) (sa_c (sa_l s_68_57) (sa_l s_68_60))))) (sa_c (sa_c (sa_c (sa_l s_68_63) (sa_l s_68_66)) (sa_c (sa_l s_68_67) (sa_c (sa_l s_68_68) (sa_l s_68_71)))) (sa_c (sa_c (sa_l s_68_72) (sa_c (sa_l s_68_75) (sa_l s_68_76))) (sa_c (sa_l s_68_79) (sa_c (sa_l s_68_80) (sa_l s_68_81))))))
theorem sa_68_1 (pc : Nat) : S68 pc (cd_68_1 pc) := sa_c (sa_c (sa_c (sa_c (sa_c (sa_l s_68_82) (sa_l s_68_85)) (sa_c (sa_l s_68_86) (sa_c (sa_l s_68_89) (sa_l s_68_90)))) (sa_c (sa_c (sa_l s_68_92) (sa_c (sa_l s_68_93) (sa_l s_68_95))) (sa_c (sa_l s_68_97) (sa_c (sa_l s_68_98) (sa_l s_68_101))))) (sa_c (sa_c (sa_c (sa_l s_68_104) (sa_l s_68_107)) (sa_c (sa_l s_68_109) (sa_c (sa_l s_68_112) (sa_l s_68_113)))) (sa_c (sa_c (sa_l s_68_116) (sa_c (sa_l s_68_119) (sa_l s_68_121))) (sa_c (sa_l s_68_122) (sa_c (sa_l s_68_125) (sa_l s_68_128)))))) (sa_c (sa_c (sa_c (sa_c (sa_l s_68_129) (sa_l s_68_131)) (sa_c (sa_l s_68_132) (sa_c (sa_l s_68_133) (sa_l s_68_134)))) (sa_c (sa_c (sa_l s_68_135) (sa_c (sa_l s_68_136) (sa_l s_68_139))) (sa_c (sa_l s_68_142) (sa_c (sa_l s_68_144) (sa_l s_68_145))))) (sa_c (sa_c (sa_c (sa_l s_68_148) (sa_l s_68_151)) (sa_c (sa_l s_68_152) (sa_c (sa_l s_68_154) (sa_l s_68_155)))) (sa_c (sa_c (sa_l s_68_156) (sa_c (sa_l s_68_157) (sa_l s_68_158))) (sa_c (sa_l s_68_159) (sa_c (sa_l s_68_160) (sa_l s_68_163))))))
theorem sa_68_2 (pc : Nat) : S68 pc (cd_68_2 pc) := sa_c (sa_c (sa_c (sa_c (sa_c (sa_l s_68_164) (sa_l s_68_167)) (sa_c (sa_l s_68_168) (sa_c (sa_l s_68_170) (sa_l s_68_173)))) (sa_c (sa_c (sa_l s_68_176) (sa_c (sa_l s_68_177) (sa_l s_68_179))) (sa_c (sa_l s_68_181) (sa_c (sa_l s_68_183) (sa_l s_68_186))))) (sa_c (sa_c (sa_c (sa_l s_68_188) (sa_l s_68_191)) (sa_c (sa_l s_68_192) (sa_c (sa_l s_68_195) (sa_l s_68_198)))) (sa_c (sa_c (sa_l s_68_200) (sa_c (sa_l s_68_201) (sa_l s_68_202))) (sa_c (sa_l s_68_205) (sa_c (sa_l s_68_206) (sa_l s_68_209)))))) (sa_c (sa_c (sa_c (sa_c (sa_l s_68_212) (sa_l s_68_214)) (sa_c (sa_l s_68_216) (sa_c (sa_l s_68_217) (sa_l s_68_218)))) (sa_c (sa_c (sa_l s_68_219) (sa_c (sa_l s_68_222) (sa_l s_68_225))) (sa_c (sa_l s_68_227) (sa_c (sa_l s_68_228) (sa_l s_68_231))))) (sa_c (sa_c (sa_c (sa_l s_68_232) (sa_l s_68_235)) (sa_c (sa_l s_68_236) (sa_c (sa_l s_68_238) (sa_l s_68_241)))) (sa_c (sa_c (sa_l s_68_244) (sa_c (sa_l s_68_246) (sa_l s_68_249))) (sa_c (sa_l s_68_250) (sa_c (sa_l s_68_253) (sa_l s_68_254))))))
theorem sa_68 (pc : Nat) : S68 pc (cd_68 pc) := sa_c (sa_68_0 pc) (sa_c (sa_68_1 pc) (sa_68_2 pc))
abbrev S69 (pc : Nat) (x : XI) : Prop := SA "WeekFoot" cX0_isSo 3 "isSo" (some .boolean) pc x
theorem s_69_0 : S69 0 (ia_al 1 0) := sa_n (snd_aload_n dX0_isSo_0 rfl rfl) on_al
theorem s_69_1 : S69 1 (ia_gfR 4 1 4) := sa_n (snd_gfR ci_1 (k := 4) (lt_c rfl) dX0_isSo_1 (Or.inl q883) (Or.inl rfl) (fun _ _ _ _ => rfl) rfl rfl) on_gfR
theorem s_69_4 : S69 4 (ia_gfR 7 3 5) := sa_n (snd_gfR ci_3 (k := 5) (lt_c rfl) dX0_isSo_4 (Or.inr ⟨_, q207⟩) (Or.inl rfl) (fun _ _ _ _ => rfl) rfl rfl) on_gfR
theorem s_69_7 : S69 7 (ia_il 8 1) := sa_n (snd_iload_n dX0_isSo_7 rfl rfl) on_il
theorem s_69_8 : S69 8 (ia_call 11 2 16 258 2) := sk_V me_258 q415 dX0_isSo_8 rfl
theorem s_69_11 : S69 11 (ia_cast 14 [7]) := sa_n (snd_cast cs_Entry q357 dX0_isSo_11 rfl) on_cast
theorem s_69_14 : S69 14 (ia_as 15 2) := sa_n (snd_astore_n dX0_isSo_14 rfl (lt_c rfl) rfl) on_as
theorem s_69_15 : S69 15 (ia_al 16 0) := sa_n (snd_aload_n dX0_isSo_15 rfl rfl) on_al
theorem s_69_16 : S69 16 (ia_gfR 19 1 4) := sa_n (snd_gfR ci_1 (k := 4) (lt_c rfl) dX0_isSo_16 (Or.inl q883) (Or.inl rfl) (fun _ _ _ _ => rfl) rfl rfl) on_gfR
theorem s_69_19 : S69 19 (ia_gfR 22 3 4) := sa_n (snd_gfR ci_3 (k := 4) (lt_c rfl) dX0_isSo_19 (Or.inr ⟨_, q202⟩) (Or.inl rfl) (fun _ _ _ _ => rfl) rfl rfl) on_gfR
theorem s_69_22 : S69 22 (ia_il 23 1) := sa_n (snd_iload_n dX0_isSo_22 rfl rfl) on_il
theorem s_69_23 : S69 23 (ia_ldI 24 101) := sa_n (snd_zaload dX0_isSo_23 rfl) on_ldI
theorem s_69_24 : S69 24 (ia_if k0e 27 89) := sa_b (sndB_if_eq dX0_isSo_24 rfl rfl) on_if
theorem s_69_27 : S69 27 (ia_al 28 0) := sa_n (snd_aload_n dX0_isSo_27 rfl rfl) on_al
theorem s_69_28 : S69 28 (ia_gfR 31 1 4) := sa_n (snd_gfR ci_1 (k := 4) (lt_c rfl) dX0_isSo_28 (Or.inl q883) (Or.inl rfl) (fun _ _ _ _ => rfl) rfl rfl) on_gfR
theorem s_69_31 : S69 31 (ia_gfR 34 3 0) := sa_n (snd_gfR ci_3 (k := 0) (lt_c rfl) dX0_isSo_31 (Or.inr ⟨_, q188⟩) (Or.inl rfl) (fun _ _ _ _ => rfl) rfl rfl) on_gfR
theorem s_69_34 : S69 34 (ia_al 35 2) := sa_n (snd_aload_n dX0_isSo_34 rfl rfl) on_al
theorem s_69_35 : S69 35 (ia_gfI 38 7 1) := sa_n (snd_gfI ci_7 (k := 1) (lt_c rfl) dX0_isSo_35 (Or.inr ⟨_, q371⟩) (Or.inl rfl) (fun _ _ _ _ => rfl) rfl rfl) on_gfI
theorem s_69_38 : S69 38 (ia_ldI 39 100) := sa_n (snd_iaload dX0_isSo_38 rfl) on_ldI
theorem s_69_39 : S69 39 (ia_k 40 (-1)) := sa_n (snd_iconst dX0_isSo_39 rfl (okI_c rfl) rfl) on_k
theorem s_69_40 : S69 40 (ia_ic k2e 43 89) := sa_b (sndB_ic_eq dX0_isSo_40 rfl rfl) on_ic
theorem s_69_43 : S69 43 (ia_al 44 2) := sa_n (snd_aload_n dX0_isSo_43 rfl rfl) on_al
theorem s_69_44 : S69 44 (ia_al 45 0) := sa_n (snd_aload_n dX0_isSo_44 rfl rfl) on_al
theorem s_69_45 : S69 45 (ia_gfR 48 1 4) := sa_n (snd_gfR ci_1 (k := 4) (lt_c rfl) dX0_isSo_45 (Or.inl q883) (Or.inl rfl) (fun _ _ _ _ => rfl) rfl rfl) on_gfR
theorem s_69_48 : S69 48 (ia_gfR 51 3 3) := sa_n (snd_gfR ci_3 (k := 3) (lt_c rfl) dX0_isSo_48 (Or.inr ⟨_, q199⟩) (Or.inl rfl) (fun _ _ _ _ => rfl) rfl rfl) on_gfR
theorem s_69_51 : S69 51 (ia_al 52 0) := sa_n (snd_aload_n dX0_isSo_51 rfl rfl) on_al
theorem s_69_52 : S69 52 (ia_gfR 55 1 4) := sa_n (snd_gfR ci_1 (k := 4) (lt_c rfl) dX0_isSo_52 (Or.inl q883) (Or.inl rfl) (fun _ _ _ _ => rfl) rfl rfl) on_gfR
theorem s_69_55 : S69 55 (ia_al 56 2) := sa_n (snd_aload_n dX0_isSo_55 rfl rfl) on_al
theorem s_69_56 : S69 56 (ia_call 59 2 3 86 2) := sk_V me_86 q429 dX0_isSo_56 rfl
theorem s_69_59 : S69 59 (ia_ldI 60 100) := sa_n (snd_iaload dX0_isSo_59 rfl) on_ldI
theorem s_69_60 : S69 60 (ia_al 61 0) := sa_n (snd_aload_n dX0_isSo_60 rfl rfl) on_al
theorem s_69_61 : S69 61 (ia_gfR 64 1 4) := sa_n (snd_gfR ci_1 (k := 4) (lt_c rfl) dX0_isSo_61 (Or.inl q883) (Or.inl rfl) (fun _ _ _ _ => rfl) rfl rfl) on_gfR
theorem s_69_64 : S69 64 (ia_gfR 67 3 3) := sa_n (snd_gfR ci_3 (k := 3) (lt_c rfl) dX0_isSo_64 (Or.inr ⟨_, q199⟩) (Or.inl rfl) (fun _ _ _ _ => rfl) rfl rfl) on_gfR
theorem s_69_67 : S69 67 (ia_k 69 12) := sa_n (snd_bipush dX0_isSo_67 (by decide) (okI_c rfl) rfl) on_k
theorem s_69_69 : S69 69 (ia_al 70 0) := sa_n (snd_aload_n dX0_isSo_69 rfl rfl) on_al
theorem s_69_70 : S69 70 (ia_gfR 73 1 4) := sa_n (snd_gfR ci_1 (k := 4) (lt_c rfl) dX0_isSo_70 (Or.inl q883) (Or.inl rfl) (fun _ _ _ _ => rfl) rfl rfl) on_gfR
theorem s_69_73 : S69 73 (ia_gfR 76 3 0) := sa_n (snd_gfR ci_3 (k := 0) (lt_c rfl) dX0_isSo_73 (Or.inr ⟨_, q188⟩) (Or.inl rfl) (fun _ _ _ _ => rfl) rfl rfl) on_gfR
theorem s_69_76 : S69 76 (ia_al 77 2) := sa_n (snd_aload_n dX0_isSo_76 rfl rfl) on_al
theorem s_69_77 : S69 77 (ia_gfI 80 7 1) := sa_n (snd_gfI ci_7 (k := 1) (lt_c rfl) dX0_isSo_77 (Or.inr ⟨_, q371⟩) (Or.inl rfl) (fun _ _ _ _ => rfl) rfl rfl) on_gfI
theorem s_69_80 : S69 80 (ia_ldI 81 100) := sa_n (snd_iaload dX0_isSo_80 rfl) on_ldI
theorem s_69_81 : S69 81 (ia_add 82) := sa_n (snd_iadd dX0_isSo_81 rfl) on_add
theorem s_69_82 : S69 82 (ia_ldI 83 100) := sa_n (snd_iaload dX0_isSo_82 rfl) on_ldI
theorem s_69_83 : S69 83 (ia_call 86 3 7 109 4) := sk_V me_109 q1246 dX0_isSo_83 rfl
theorem s_69_86 : S69 86 (ia_if k0e 89 93) := sa_b (sndB_if_eq dX0_isSo_86 rfl rfl) on_if
theorem s_69_89 : S69 89 (ia_k 90 1) := sa_n (snd_iconst dX0_isSo_89 rfl (okI_c rfl) rfl) on_k
theorem s_69_90 : S69 90 (ia_go 94) := sa_n (snd_goto dX0_isSo_90 rfl) on_go
theorem s_69_93 : S69 93 (ia_k 94 0) := sa_n (snd_iconst dX0_isSo_93 rfl (okI_c rfl) rfl) on_k
theorem s_69_94 : S69 94 (ia_retZ) := sa_t (st_retZ dX0_isSo_94 rfl) on_retZ
theorem sa_69 (pc : Nat) : S69 pc (cd_69 pc) := sa_c (sa_c (sa_c (sa_c (sa_c (sa_l s_69_0) (sa_c (sa_l s_69_1) (sa_l s_69_4))) (sa_c (sa_l s_69_7) (sa_c (sa_l s_69_8) (sa_l s_69_11)))) (sa_c (sa_c (sa_l s_69_14) (sa_c (sa_l s_69_15) (sa_l s_69_16))) (sa_c (sa_l s_69_19) (sa_c (sa_l s_69_22) (sa_l s_69_23))))) (sa_c (sa_c (sa_c (sa_l s_69_24) (sa_c (sa_l s_69_27) (sa_l s_69_28))) (sa_c (sa_l s_69_31) (sa_c (sa_l s_69_34) (sa_l s_69_35)))) (sa_c (sa_c (sa_l s_69_38) (sa_c (sa_l s_69_39) (sa_l s_69_40))) (sa_c (sa_l s_69_43) (sa_c (sa_l s_69_44) (sa_l s_69_45)))))) (sa_c (sa_c (sa_c (sa_c (sa_l s_69_48) (sa_c (sa_l s_69_51) (sa_l s_69_52))) (sa_c (sa_l s_69_55) (sa_c (sa_l s_69_56) (sa_l s_69_59)))) (sa_c (sa_c (sa_l s_69_60) (sa_c (sa_l s_69_61) (sa_l s_69_64))) (sa_c (sa_l s_69_67) (sa_c (sa_l s_69_69) (sa_l s_69_70))))) (sa_c (sa_c (sa_c (sa_l s_69_73) (sa_c (sa_l s_69_76) (sa_l s_69_77))) (sa_c (sa_l s_69_80) (sa_c (sa_l s_69_81) (sa_l s_69_82)))) (sa_c (sa_c (sa_l s_69_83) (sa_c (sa_l s_69_86) (sa_l s_69_89))) (sa_c (sa_l s_69_90) (sa_c (sa_l s_69_93) (sa_l s_69_94))))))
abbrev S70 (pc : Nat) (x : XI) : Prop := SA "WeekFoot" cX0_year 4 "year" (some .int) pc x
theorem s_70_0 : S70 0 (ia_il 1 1) := sa_n (snd_iload_n dX0_year_0 rfl rfl) on_il
theorem s_70_1 : S70 1 (ia_k 2 0) := sa_n (snd_iconst dX0_year_1 rfl (okI_c rfl) rfl) on_k
theorem s_70_2 : S70 2 (ia_k 5 1000000) := sa_n (snd_ldcw dX0_year_2 q1049 (by decide) (okI_c rfl) rfl) on_k
theorem s_70_5 : S70 5 (ia_stat 8 3 2 3) := sk_S me_2 q138 dX0_year_5 rfl
theorem s_70_8 : S70 8 (ia_if k0e 11 28) := sa_b (sndB_if_eq dX0_year_8 rfl rfl) on_if
theorem s_70_11 : S70 11 (ia_il 12 2) := sa_n (snd_iload_n dX0_year_11 rfl rfl) on_il
theorem s_70_12 : S70 12 (ia_stat 15 1 12 1) := sk_S me_12 q331 dX0_year_12 rfl
theorem s_70_15 : S70 15 (ia_if k0e 18 28) := sa_b (sndB_if_eq dX0_year_15 rfl rfl) on_if
theorem s_70_18 : S70 18 (ia_il 19 3) := sa_n (snd_iload_n dX0_year_18 rfl rfl) on_il
theorem s_70_19 : S70 19 (ia_k 20 1) := sa_n (snd_iconst dX0_year_19 rfl (okI_c rfl) rfl) on_k
theorem s_70_20 : S70 20 (ia_k 22 99) := sa_n (snd_bipush dX0_year_20 (by decide) (okI_c rfl) rfl) on_k
theorem s_70_22 : S70 22 (ia_stat 25 3 2 3) := sk_S me_2 q138 dX0_year_22 rfl
theorem s_70_25 : S70 25 (ia_if k0n 28 34) := sa_b (sndB_if_ne dX0_year_25 rfl rfl) on_if
theorem s_70_28 : S70 28 (ia_al 29 0) := sa_n (snd_aload_n dX0_year_28 rfl rfl) on_al
theorem s_70_29 : S70 29 (ia_k 30 (-1)) := sa_n (snd_iconst dX0_year_29 rfl (okI_c rfl) rfl) on_k
theorem s_70_30 : S70 30 (ia_call 33 2 1 3 2) := sk_V me_3 q141 dX0_year_30 rfl
theorem s_70_33 : S70 33 (ia_retI) := sa_t (st_retI dX0_year_33 rfl) on_retI
theorem s_70_34 : S70 34 (ia_al 35 0) := sa_n (snd_aload_n dX0_year_34 rfl rfl) on_al
theorem s_70_35 : S70 35 (ia_gfR 38 1 27) := sa_n (snd_gfR ci_1 (k := 27) (lt_c rfl) dX0_year_35 (Or.inl q909) (Or.inl rfl) (fun _ _ _ _ => rfl) rfl rfl) on_gfR
theorem s_70_38 : S70 38 (ia_il 39 1) := sa_n (snd_iload_n dX0_year_38 rfl rfl) on_il
theorem s_70_39 : S70 39 (ia_call 42 2 6 103 4) := sk_V me_103 q1256 dX0_year_39 rfl
theorem s_70_42 : S70 42 (ia_al 43 0) := sa_n (snd_aload_n dX0_year_42 rfl rfl) on_al
theorem s_70_43 : S70 43 (ia_gfR 46 1 27) := sa_n (snd_gfR ci_1 (k := 27) (lt_c rfl) dX0_year_43 (Or.inl q909) (Or.inl rfl) (fun _ _ _ _ => rfl) rfl rfl) on_gfR
theorem s_70_46 : S70 46 (ia_il 47 2) := sa_n (snd_iload_n dX0_year_46 rfl rfl) on_il
theorem s_70_47 : S70 47 (ia_call 50 2 6 104 5) := sk_V me_104 q1263 dX0_year_47 rfl
theorem s_70_50 : S70 50 (ia_al 51 0) := sa_n (snd_aload_n dX0_year_50 rfl rfl) on_al
theorem s_70_51 : S70 51 (ia_il 52 3) := sa_n (snd_iload_n dX0_year_51 rfl rfl) on_il
theorem s_70_52 : S70 52 (ia_al 53 0) := sa_n (snd_aload_n dX0_year_52 rfl rfl) on_al
theorem s_70_53 : S70 53 (ia_gfR 56 1 27) := sa_n (snd_gfR ci_1 (k := 27) (lt_c rfl) dX0_year_53 (Or.inl q909) (Or.inl rfl) (fun _ _ _ _ => rfl) rfl rfl) on_gfR
theorem s_70_56 : S70 56 (ia_gfI 59 6 3) := sa_n (snd_gfI ci_6 (k := 3) (lt_c rfl) dX0_year_56 (Or.inr ⟨_, q857⟩) (Or.inl rfl) (fun _ _ _ _ => rfl) rfl rfl) on_gfI
theorem s_70_59 : S70 59 (ia_mul 60) := sa_n (snd_imul dX0_year_59 rfl) on_mul
theorem s_70_60 : S70 60 (ia_call 63 2 1 4 2) := sk_V me_4 q301 dX0_year_60 rfl
theorem s_70_63 : S70 63 (ia_retI) := sa_t (st_retI dX0_year_63 rfl) on_retI
theorem sa_70 (pc : Nat) : S70 pc (cd_70 pc) := sa_c (sa_c (sa_c (sa_c (sa_c (sa_l s_70_0) (sa_l s_70_1)) (sa_c (sa_l s_70_2) (sa_l s_70_5))) (sa_c (sa_c (sa_l s_70_8) (sa_l s_70_11)) (sa_c (sa_l s_70_12) (sa_l s_70_15)))) (sa_c (sa_c (sa_c (sa_l s_70_18) (sa_l s_70_19)) (sa_c (sa_l s_70_20) (sa_l s_70_22))) (sa_c (sa_c (sa_l s_70_25) (sa_l s_70_28)) (sa_c (sa_l s_70_29) (sa_l s_70_30))))) (sa_c (sa_c (sa_c (sa_c (sa_l s_70_33) (sa_l s_70_34)) (sa_c (sa_l s_70_35) (sa_l s_70_38))) (sa_c (sa_c (sa_l s_70_39) (sa_l s_70_42)) (sa_c (sa_l s_70_43) (sa_l s_70_46)))) (sa_c (sa_c (sa_c (sa_l s_70_47) (sa_l s_70_50)) (sa_c (sa_l s_70_51) (sa_l s_70_52))) (sa_c (sa_c (sa_l s_70_53) (sa_l s_70_56)) (sa_c (sa_l s_70_59) (sa_c (sa_l s_70_60) (sa_l s_70_63))))))
abbrev S71 (pc : Nat) (x : XI) : Prop := SA "WeekFoot" cX0_trade 2 "trade" (some .int) pc x
theorem s_71_0 : S71 0 (ia_al 1 0) := sa_n (snd_aload_n dX0_trade_0 rfl rfl) on_al
theorem s_71_1 : S71 1 (ia_gfR 4 1 27) := sa_n (snd_gfR ci_1 (k := 27) (lt_c rfl) dX0_trade_1 (Or.inl q909) (Or.inl rfl) (fun _ _ _ _ => rfl) rfl rfl) on_gfR
theorem s_71_4 : S71 4 (ia_gfI 7 6 4) := sa_n (snd_gfI ci_6 (k := 4) (lt_c rfl) dX0_trade_4 (Or.inr ⟨_, q859⟩) (Or.inl rfl) (fun _ _ _ _ => rfl) rfl rfl) on_gfI
theorem s_71_7 : S71 7 (ia_if k0e 10 20) := sa_b (sndB_if_eq dX0_trade_7 rfl rfl) on_if
theorem s_71_10 : S71 10 (ia_il 11 1) := sa_n (snd_iload_n dX0_trade_10 rfl rfl) on_il
theorem s_71_11 : S71 11 (ia_k 12 0) := sa_n (snd_iconst dX0_trade_11 rfl (okI_c rfl) rfl) on_k
theorem s_71_12 : S71 12 (ia_k 14 33) := sa_n (snd_bipush dX0_trade_12 (by decide) (okI_c rfl) rfl) on_k
theorem s_71_14 : S71 14 (ia_stat 17 3 2 3) := sk_S me_2 q138 dX0_trade_14 rfl
theorem s_71_17 : S71 17 (ia_if k0n 20 22) := sa_b (sndB_if_ne dX0_trade_17 rfl rfl) on_if
theorem s_71_20 : S71 20 (ia_k 21 (-1)) := sa_n (snd_iconst dX0_trade_20 rfl (okI_c rfl) rfl) on_k
theorem s_71_21 : S71 21 (ia_retI) := sa_t (st_retI dX0_trade_21 rfl) on_retI
theorem s_71_22 : S71 22 (ia_il 23 1) := sa_n (snd_iload_n dX0_trade_22 rfl rfl) on_il
theorem s_71_23 : S71 23 (ia_if k0n 26 36) := sa_b (sndB_if_ne dX0_trade_23 rfl rfl) on_if
theorem s_71_26 : S71 26 (ia_al 27 0) := sa_n (snd_aload_n dX0_trade_26 rfl rfl) on_al
theorem s_71_27 : S71 27 (ia_gfR 30 1 27) := sa_n (snd_gfR ci_1 (k := 27) (lt_c rfl) dX0_trade_27 (Or.inl q909) (Or.inl rfl) (fun _ _ _ _ => rfl) rfl rfl) on_gfR
theorem s_71_30 : S71 30 (ia_gfI 33 6 1) := sa_n (snd_gfI ci_6 (k := 1) (lt_c rfl) dX0_trade_30 (Or.inr ⟨_, q853⟩) (Or.inl rfl) (fun _ _ _ _ => rfl) rfl rfl) on_gfI
theorem s_71_33 : S71 33 (ia_go 62) := sa_n (snd_goto dX0_trade_33 rfl) on_go
theorem s_71_36 : S71 36 (ia_il 37 1) := sa_n (snd_iload_n dX0_trade_36 rfl rfl) on_il
theorem s_71_37 : S71 37 (ia_k 38 1) := sa_n (snd_iconst dX0_trade_37 rfl (okI_c rfl) rfl) on_k
theorem s_71_38 : S71 38 (ia_ic k2n 41 51) := sa_b (sndB_ic_ne dX0_trade_38 rfl rfl) on_ic
theorem s_71_41 : S71 41 (ia_al 42 0) := sa_n (snd_aload_n dX0_trade_41 rfl rfl) on_al
theorem s_71_42 : S71 42 (ia_gfR 45 1 27) := sa_n (snd_gfR ci_1 (k := 27) (lt_c rfl) dX0_trade_42 (Or.inl q909) (Or.inl rfl) (fun _ _ _ _ => rfl) rfl rfl) on_gfR
theorem s_71_45 : S71 45 (ia_gfI 48 6 2) := sa_n (snd_gfI ci_6 (k := 2) (lt_c rfl) dX0_trade_45 (Or.inr ⟨_, q855⟩) (Or.inl rfl) (fun _ _ _ _ => rfl) rfl rfl) on_gfI
theorem s_71_48 : S71 48 (ia_go 62) := sa_n (snd_goto dX0_trade_48 rfl) on_go
theorem s_71_51 : S71 51 (ia_al 52 0) := sa_n (snd_aload_n dX0_trade_51 rfl rfl) on_al
theorem s_71_52 : S71 52 (ia_gfR 55 1 27) := sa_n (snd_gfR ci_1 (k := 27) (lt_c rfl) dX0_trade_52 (Or.inl q909) (Or.inl rfl) (fun _ _ _ _ => rfl) rfl rfl) on_gfR
theorem s_71_55 : S71 55 (ia_gfR 58 6 0) := sa_n (snd_gfR ci_6 (k := 0) (lt_c rfl) dX0_trade_55 (Or.inr ⟨_, q851⟩) (Or.inl rfl) (fun _ _ _ _ => rfl) rfl rfl) on_gfR
theorem s_71_58 : S71 58 (ia_il 59 1) := sa_n (snd_iload_n dX0_trade_58 rfl rfl) on_il
theorem s_71_59 : S71 59 (ia_k 60 2) := sa_n (snd_iconst dX0_trade_59 rfl (okI_c rfl) rfl) on_k
theorem s_71_60 : S71 60 (ia_sub 61) := sa_n (snd_isub dX0_trade_60 rfl) on_sub
theorem s_71_61 : S71 61 (ia_ldI 62 100) := sa_n (snd_iaload dX0_trade_61 rfl) on_ldI
theorem s_71_62 : S71 62 (ia_retI) := sa_t (st_retI dX0_trade_62 rfl) on_retI
theorem sa_71 (pc : Nat) : S71 pc (cd_71 pc) := sa_c (sa_c (sa_c (sa_c (sa_c (sa_l s_71_0) (sa_l s_71_1)) (sa_c (sa_l s_71_4) (sa_l s_71_7))) (sa_c (sa_c (sa_l s_71_10) (sa_l s_71_11)) (sa_c (sa_l s_71_12) (sa_l s_71_14)))) (sa_c (sa_c (sa_c (sa_l s_71_17) (sa_l s_71_20)) (sa_c (sa_l s_71_21) (sa_l s_71_22))) (sa_c (sa_c (sa_l s_71_23) (sa_l s_71_26)) (sa_c (sa_l s_71_27) (sa_l s_71_30))))) (sa_c (sa_c (sa_c (sa_c (sa_l s_71_33) (sa_l s_71_36)) (sa_c (sa_l s_71_37) (sa_l s_71_38))) (sa_c (sa_c (sa_l s_71_41) (sa_l s_71_42)) (sa_c (sa_l s_71_45) (sa_l s_71_48)))) (sa_c (sa_c (sa_c (sa_l s_71_51) (sa_l s_71_52)) (sa_c (sa_l s_71_55) (sa_l s_71_58))) (sa_c (sa_c (sa_l s_71_59) (sa_l s_71_60)) (sa_c (sa_l s_71_61) (sa_l s_71_62)))))
abbrev S72 (pc : Nat) (x : XI) : Prop := SA "WeekFoot" cX0_told 4 "told" (some .int) pc x
theorem s_72_0 : S72 0 (ia_al 1 0) := sa_n (snd_aload_n dX0_told_0 rfl rfl) on_al
theorem s_72_1 : S72 1 (ia_gfR 4 1 27) := sa_n (snd_gfR ci_1 (k := 27) (lt_c rfl) dX0_told_1 (Or.inl q909) (Or.inl rfl) (fun _ _ _ _ => rfl) rfl rfl) on_gfR
theorem s_72_4 : S72 4 (ia_gfI 7 6 4) := sa_n (snd_gfI ci_6 (k := 4) (lt_c rfl) dX0_told_4 (Or.inr ⟨_, q859⟩) (Or.inl rfl) (fun _ _ _ _ => rfl) rfl rfl) on_gfI
theorem s_72_7 : S72 7 (ia_if k0e 10 17) := sa_b (sndB_if_eq dX0_told_7 rfl rfl) on_if
theorem s_72_10 : S72 10 (ia_il 11 1) := sa_n (snd_iload_n dX0_told_10 rfl rfl) on_il
theorem s_72_11 : S72 11 (ia_stat 14 1 12 1) := sk_S me_12 q331 dX0_told_11 rfl
theorem s_72_14 : S72 14 (ia_if k0n 17 19) := sa_b (sndB_if_ne dX0_told_14 rfl rfl) on_if
theorem s_72_17 : S72 17 (ia_k 18 (-1)) := sa_n (snd_iconst dX0_told_17 rfl (okI_c rfl) rfl) on_k
theorem s_72_18 : S72 18 (ia_retI) := sa_t (st_retI dX0_told_18 rfl) on_retI
theorem s_72_19 : S72 19 (ia_k 20 0) := sa_n (snd_iconst dX0_told_19 rfl (okI_c rfl) rfl) on_k
theorem s_72_20 : S72 20 (ia_is 21 2) := sa_n (snd_istore_n dX0_told_20 rfl (lt_c rfl) rfl) on_is
theorem s_72_21 : S72 21 (ia_k 22 0) := sa_n (snd_iconst dX0_told_21 rfl (okI_c rfl) rfl) on_k
theorem s_72_22 : S72 22 (ia_is 23 3) := sa_n (snd_istore_n dX0_told_22 rfl (lt_c rfl) rfl) on_is
theorem s_72_23 : S72 23 (ia_keep [0, 1, 2, 3] (ia_il 24 3)) := sa_nk (snd_iload_n dX0_told_23 rfl rfl) on_il
theorem s_72_24 : S72 24 (ia_k 26 32) := sa_n (snd_bipush dX0_told_24 (by decide) (okI_c rfl) rfl) on_k
theorem s_72_26 : S72 26 (ia_ic k2g 29 80) := sa_b (sndB_ic_ge dX0_told_26 rfl rfl) on_ic
theorem s_72_29 : S72 29 (ia_il 30 2) := sa_n (snd_iload_n dX0_told_29 rfl rfl) on_il
theorem s_72_30 : S72 30 (ia_al 31 0) := sa_n (snd_aload_n dX0_told_30 rfl rfl) on_al
theorem s_72_31 : S72 31 (ia_gfR 34 1 27) := sa_n (snd_gfR ci_1 (k := 27) (lt_c rfl) dX0_told_31 (Or.inl q909) (Or.inl rfl) (fun _ _ _ _ => rfl) rfl rfl) on_gfR
theorem s_72_34 : S72 34 (ia_al 35 0) := sa_n (snd_aload_n dX0_told_34 rfl rfl) on_al
theorem s_72_35 : S72 35 (ia_gfR 38 1 4) := sa_n (snd_gfR ci_1 (k := 4) (lt_c rfl) dX0_told_35 (Or.inl q883) (Or.inl rfl) (fun _ _ _ _ => rfl) rfl rfl) on_gfR
theorem s_72_38 : S72 38 (ia_gfR 41 3 1) := sa_n (snd_gfR ci_3 (k := 1) (lt_c rfl) dX0_told_38 (Or.inr ⟨_, q192⟩) (Or.inl rfl) (fun _ _ _ _ => rfl) rfl rfl) on_gfR
theorem s_72_41 : S72 41 (ia_il 42 1) := sa_n (snd_iload_n dX0_told_41 rfl rfl) on_il
theorem s_72_42 : S72 42 (ia_ldI 43 100) := sa_n (snd_iaload dX0_told_42 rfl) on_ldI
theorem s_72_43 : S72 43 (ia_k 44 (-1)) := sa_n (snd_iconst dX0_told_43 rfl (okI_c rfl) rfl) on_k
theorem s_72_44 : S72 44 (ia_ic k2e 47 67) := sa_b (sndB_ic_eq dX0_told_44 rfl rfl) on_ic
theorem s_72_47 : S72 47 (ia_il 48 3) := sa_n (snd_iload_n dX0_told_47 rfl rfl) on_il
theorem s_72_48 : S72 48 (ia_al 49 0) := sa_n (snd_aload_n dX0_told_48 rfl rfl) on_al
theorem s_72_49 : S72 49 (ia_gfR 52 1 4) := sa_n (snd_gfR ci_1 (k := 4) (lt_c rfl) dX0_told_49 (Or.inl q883) (Or.inl rfl) (fun _ _ _ _ => rfl) rfl rfl) on_gfR
theorem s_72_52 : S72 52 (ia_gfR 55 3 1) := sa_n (snd_gfR ci_3 (k := 1) (lt_c rfl) dX0_told_52 (Or.inr ⟨_, q192⟩) (Or.inl rfl) (fun _ _ _ _ => rfl) rfl rfl) on_gfR
theorem s_72_55 : S72 55 (ia_il 56 1) := sa_n (snd_iload_n dX0_told_55 rfl rfl) on_il
theorem s_72_56 : S72 56 (ia_ldI 57 100) := sa_n (snd_iaload dX0_told_56 rfl) on_ldI
theorem s_72_57 : S72 57 (ia_ic k2l 60 67) := sa_b (sndB_ic_lt dX0_told_57 rfl rfl) on_ic
theorem s_72_60 : S72 60 (ia_il 61 1) := sa_n (snd_iload_n dX0_told_60 rfl rfl) on_il
theorem s_72_61 : S72 61 (ia_k 63 6) := sa_n (snd_bipush dX0_told_61 (by decide) (okI_c rfl) rfl) on_k
theorem s_72_63 : S72 63 (ia_add 64) := sa_n (snd_iadd dX0_told_63 rfl) on_add
theorem s_72_64 : S72 64 (ia_go 68) := sa_n (snd_goto dX0_told_64 rfl) on_go
theorem s_72_67 : S72 67 (ia_il 68 1) := sa_n (snd_iload_n dX0_told_67 rfl rfl) on_il
theorem s_72_68 : S72 68 (ia_il 69 3) := sa_n (snd_iload_n dX0_told_68 rfl rfl) on_il
theorem s_72_69 : S72 69 (ia_call 72 3 6 105 3) := sk_V me_105 q1279 dX0_told_69 rfl
theorem s_72_72 : S72 72 (ia_add 73) := sa_n (snd_iadd dX0_told_72 rfl) on_add
theorem s_72_73 : S72 73 (ia_is 74 2) := sa_n (snd_istore_n dX0_told_73 rfl (lt_c rfl) rfl) on_is
theorem s_72_74 : S72 74 (ia_inc 77 3 1) := sa_n (snd_iinc dX0_told_74 rfl (lt_c rfl) rfl) on_inc
theorem s_72_77 : S72 77 (ia_go 23) := sa_n (snd_goto dX0_told_77 rfl) on_go
theorem s_72_80 : S72 80 (ia_il 81 2) := sa_n (snd_iload_n dX0_told_80 rfl rfl) on_il
theorem s_72_81 : S72 81 (ia_retI) := sa_t (st_retI dX0_told_81 rfl) on_retI
theorem sa_72 (pc : Nat) : S72 pc (cd_72 pc) := sa_c (sa_c (sa_c (sa_c (sa_c (sa_l s_72_0) (sa_l s_72_1)) (sa_c (sa_l s_72_4) (sa_c (sa_l s_72_7) (sa_l s_72_10)))) (sa_c (sa_c (sa_l s_72_11) (sa_c (sa_l s_72_14) (sa_l s_72_17))) (sa_c (sa_l s_72_18) (sa_c (sa_l s_72_19) (sa_l s_72_20))))) (sa_c (sa_c (sa_c (sa_l s_72_21) (sa_c (sa_l s_72_22) (sa_l s_72_23))) (sa_c (sa_l s_72_24) (sa_c (sa_l s_72_26) (sa_l s_72_29)))) (sa_c (sa_c (sa_l s_72_30) (sa_c (sa_l s_72_31) (sa_l s_72_34))) (sa_c (sa_l s_72_35) (sa_c (sa_l s_72_38) (sa_l s_72_41)))))) (sa_c (sa_c (sa_c (sa_c (sa_l s_72_42) (sa_l s_72_43)) (sa_c (sa_l s_72_44) (sa_c (sa_l s_72_47) (sa_l s_72_48)))) (sa_c (sa_c (sa_l s_72_49) (sa_c (sa_l s_72_52) (sa_l s_72_55))) (sa_c (sa_l s_72_56) (sa_c (sa_l s_72_57) (sa_l s_72_60))))) (sa_c (sa_c (sa_c (sa_l s_72_61) (sa_c (sa_l s_72_63) (sa_l s_72_64))) (sa_c (sa_l s_72_67) (sa_c (sa_l s_72_68) (sa_l s_72_69)))) (sa_c (sa_c (sa_l s_72_72) (sa_c (sa_l s_72_73) (sa_l s_72_74))) (sa_c (sa_l s_72_77) (sa_c (sa_l s_72_80) (sa_l s_72_81))))))
abbrev S73 (pc : Nat) (x : XI) : Prop := SA "WeekFoot" cX0_count 5 "count" (some .int) pc x
theorem s_73_0 : S73 0 (ia_k 1 0) := sa_n (snd_iconst dX0_count_0 rfl (okI_c rfl) rfl) on_k
theorem s_73_1 : S73 1 (ia_is 2 2) := sa_n (snd_istore_n dX0_count_1 rfl (lt_c rfl) rfl) on_is
theorem s_73_2 : S73 2 (ia_k 3 0) := sa_n (snd_iconst dX0_count_2 rfl (okI_c rfl) rfl) on_k
theorem s_73_3 : S73 3 (ia_is 4 3) := sa_n (snd_istore_n dX0_count_3 rfl (lt_c rfl) rfl) on_is
theorem s_73_4 : S73 4 (ia_k 5 0) := sa_n (snd_iconst dX0_count_4 rfl (okI_c rfl) rfl) on_k
theorem s_73_5 : S73 5 (ia_is 7 4) := sa_n (snd_istore dX0_count_5 (lt_c rfl) rfl) on_is
theorem s_73_7 : S73 7 (ia_keep [0, 1, 2, 3, 4] (ia_il 9 4)) := sa_nk (snd_iload dX0_count_7 rfl) on_il
theorem s_73_9 : S73 9 (ia_k 11 32) := sa_n (snd_bipush dX0_count_9 (by decide) (okI_c rfl) rfl) on_k
theorem s_73_11 : S73 11 (ia_ic k2g 14 42) := sa_b (sndB_ic_ge dX0_count_11 rfl rfl) on_ic
theorem s_73_14 : S73 14 (ia_il 15 2) := sa_n (snd_iload_n dX0_count_14 rfl rfl) on_il
theorem s_73_15 : S73 15 (ia_al 16 0) := sa_n (snd_aload_n dX0_count_15 rfl rfl) on_al
theorem s_73_16 : S73 16 (ia_gfR 19 1 4) := sa_n (snd_gfR ci_1 (k := 4) (lt_c rfl) dX0_count_16 (Or.inl q883) (Or.inl rfl) (fun _ _ _ _ => rfl) rfl rfl) on_gfR
theorem s_73_19 : S73 19 (ia_gfR 22 3 0) := sa_n (snd_gfR ci_3 (k := 0) (lt_c rfl) dX0_count_19 (Or.inr ⟨_, q188⟩) (Or.inl rfl) (fun _ _ _ _ => rfl) rfl rfl) on_gfR
theorem s_73_22 : S73 22 (ia_il 24 4) := sa_n (snd_iload dX0_count_22 rfl) on_il
theorem s_73_24 : S73 24 (ia_ldI 25 100) := sa_n (snd_iaload dX0_count_24 rfl) on_ldI
theorem s_73_25 : S73 25 (ia_k 26 (-1)) := sa_n (snd_iconst dX0_count_25 rfl (okI_c rfl) rfl) on_k
theorem s_73_26 : S73 26 (ia_ic k2n 29 33) := sa_b (sndB_ic_ne dX0_count_26 rfl rfl) on_ic
theorem s_73_29 : S73 29 (ia_k 30 0) := sa_n (snd_iconst dX0_count_29 rfl (okI_c rfl) rfl) on_k
theorem s_73_30 : S73 30 (ia_go 34) := sa_n (snd_goto dX0_count_30 rfl) on_go
theorem s_73_33 : S73 33 (ia_k 34 1) := sa_n (snd_iconst dX0_count_33 rfl (okI_c rfl) rfl) on_k
theorem s_73_34 : S73 34 (ia_add 35) := sa_n (snd_iadd dX0_count_34 rfl) on_add
theorem s_73_35 : S73 35 (ia_is 36 2) := sa_n (snd_istore_n dX0_count_35 rfl (lt_c rfl) rfl) on_is
theorem s_73_36 : S73 36 (ia_inc 39 4 1) := sa_n (snd_iinc dX0_count_36 rfl (lt_c rfl) rfl) on_inc
theorem s_73_39 : S73 39 (ia_go 7) := sa_n (snd_goto dX0_count_39 rfl) on_go
theorem s_73_42 : S73 42 (ia_k 43 0) := sa_n (snd_iconst dX0_count_42 rfl (okI_c rfl) rfl) on_k
theorem s_73_43 : S73 43 (ia_is 45 4) := sa_n (snd_istore dX0_count_43 (lt_c rfl) rfl) on_is
theorem s_73_45 : S73 45 (ia_keep [0, 1, 2, 3, 4] (ia_il 47 4)) := sa_nk (snd_iload dX0_count_45 rfl) on_il
theorem s_73_47 : S73 47 (ia_k 49 6) := sa_n (snd_bipush dX0_count_47 (by decide) (okI_c rfl) rfl) on_k
theorem s_73_49 : S73 49 (ia_ic k2g 52 80) := sa_b (sndB_ic_ge dX0_count_49 rfl rfl) on_ic
theorem s_73_52 : S73 52 (ia_il 53 3) := sa_n (snd_iload_n dX0_count_52 rfl rfl) on_il
theorem s_73_53 : S73 53 (ia_al 54 0) := sa_n (snd_aload_n dX0_count_53 rfl rfl) on_al
theorem s_73_54 : S73 54 (ia_gfR 57 1 4) := sa_n (snd_gfR ci_1 (k := 4) (lt_c rfl) dX0_count_54 (Or.inl q883) (Or.inl rfl) (fun _ _ _ _ => rfl) rfl rfl) on_gfR
theorem s_73_57 : S73 57 (ia_gfR 60 3 1) := sa_n (snd_gfR ci_3 (k := 1) (lt_c rfl) dX0_count_57 (Or.inr ⟨_, q192⟩) (Or.inl rfl) (fun _ _ _ _ => rfl) rfl rfl) on_gfR
theorem s_73_60 : S73 60 (ia_il 62 4) := sa_n (snd_iload dX0_count_60 rfl) on_il
theorem s_73_62 : S73 62 (ia_ldI 63 100) := sa_n (snd_iaload dX0_count_62 rfl) on_ldI
theorem s_73_63 : S73 63 (ia_k 64 (-1)) := sa_n (snd_iconst dX0_count_63 rfl (okI_c rfl) rfl) on_k
theorem s_73_64 : S73 64 (ia_ic k2n 67 71) := sa_b (sndB_ic_ne dX0_count_64 rfl rfl) on_ic
theorem s_73_67 : S73 67 (ia_k 68 0) := sa_n (snd_iconst dX0_count_67 rfl (okI_c rfl) rfl) on_k
theorem s_73_68 : S73 68 (ia_go 72) := sa_n (snd_goto dX0_count_68 rfl) on_go
theorem s_73_71 : S73 71 (ia_k 72 1) := sa_n (snd_iconst dX0_count_71 rfl (okI_c rfl) rfl) on_k
theorem s_73_72 : S73 72 (ia_add 73) := sa_n (snd_iadd dX0_count_72 rfl) on_add
theorem s_73_73 : S73 73 (ia_is 74 3) := sa_n (snd_istore_n dX0_count_73 rfl (lt_c rfl) rfl) on_is
theorem s_73_74 : S73 74 (ia_inc 77 4 1) := sa_n (snd_iinc dX0_count_74 rfl (lt_c rfl) rfl) on_inc
theorem s_73_77 : S73 77 (ia_go 45) := sa_n (snd_goto dX0_count_77 rfl) on_go
theorem s_73_80 : S73 80 (ia_il 81 1) := sa_n (snd_iload_n dX0_count_80 rfl rfl) on_il
theorem s_73_81 : S73 81 (ia_sw 0 [140, 151, 159, 167, 169, 171, 176, 176, 176, 185, 185] 194) := sa_b (sndB_sw dX0_count_81 rfl rfl rfl (okI_c rfl) (okI_c rfl)) on_sw
theorem s_73_140 : S73 140 (ia_al 141 0) := sa_n (snd_aload_n dX0_count_140 rfl rfl) on_al
theorem s_73_141 : S73 141 (ia_gfR 144 1 4) := sa_n (snd_gfR ci_1 (k := 4) (lt_c rfl) dX0_count_141 (Or.inl q883) (Or.inl rfl) (fun _ _ _ _ => rfl) rfl rfl) on_gfR
theorem s_73_144 : S73 144 (ia_gfR 147 3 5) := sa_n (snd_gfR ci_3 (k := 5) (lt_c rfl) dX0_count_144 (Or.inr ⟨_, q207⟩) (Or.inl rfl) (fun _ _ _ _ => rfl) rfl rfl) on_gfR
theorem s_73_147 : S73 147 (ia_call 150 1 16 254 1) := sk_V me_254 q353 dX0_count_147 rfl
theorem s_73_150 : S73 150 (ia_retI) := sa_t (st_retI dX0_count_150 rfl) on_retI
theorem s_73_151 : S73 151 (ia_al 152 0) := sa_n (snd_aload_n dX0_count_151 rfl rfl) on_al
theorem s_73_152 : S73 152 (ia_call 155 1 1 28 3) := sk_V me_28 q1181 dX0_count_152 rfl
theorem s_73_155 : S73 155 (ia_stat 158 1 265 1) := sk_S me_265 q1284 dX0_count_155 rfl
theorem s_73_158 : S73 158 (ia_retI) := sa_t (st_retI dX0_count_158 rfl) on_retI
theorem s_73_159 : S73 159 (ia_al 160 0) := sa_n (snd_aload_n dX0_count_159 rfl rfl) on_al
theorem s_73_160 : S73 160 (ia_gfR 163 1 4) := sa_n (snd_gfR ci_1 (k := 4) (lt_c rfl) dX0_count_160 (Or.inl q883) (Or.inl rfl) (fun _ _ _ _ => rfl) rfl rfl) on_gfR
theorem s_73_163 : S73 163 (ia_gfI 166 3 6) := sa_n (snd_gfI ci_3 (k := 6) (lt_c rfl) dX0_count_163 (Or.inr ⟨_, q211⟩) (Or.inl rfl) (fun _ _ _ _ => rfl) rfl rfl) on_gfI
theorem s_73_166 : S73 166 (ia_retI) := sa_t (st_retI dX0_count_166 rfl) on_retI
theorem s_73_167 : S73 167 (ia_il 168 2) := sa_n (snd_iload_n dX0_count_167 rfl rfl) on_il
theorem s_73_168 : S73 168 (ia_retI) := sa_t (st_retI dX0_count_168 rfl) on_retI
theorem s_73_169 : S73 169 (ia_il 170 3) := sa_n (snd_iload_n dX0_count_169 rfl rfl) on_il
theorem s_73_170 : S73 170 (ia_retI) := sa_t (st_retI dX0_count_170 rfl) on_retI
theorem s_73_171 : S73 171 (ia_al 172 0) := sa_n (snd_aload_n dX0_count_171 rfl rfl) on_al
theorem s_73_172 : S73 172 (ia_gfI 175 1 7) := sa_n (snd_gfI ci_1 (k := 7) (lt_c rfl) dX0_count_172 (Or.inl q886) (Or.inl rfl) (fun _ _ _ _ => rfl) rfl rfl) on_gfI
theorem s_73_175 : S73 175 (ia_retI) := sa_t (st_retI dX0_count_175 rfl) on_retI
theorem s_73_176 : S73 176 (ia_al 177 0) := sa_n (snd_aload_n dX0_count_176 rfl rfl) on_al
theorem s_73_177 : S73 177 (ia_gfR 180 1 1) := sa_n (snd_gfR ci_1 (k := 1) (lt_c rfl) dX0_count_177 (Or.inl q875) (Or.inl rfl) (fun _ _ _ _ => rfl) rfl rfl) on_gfR
theorem s_73_180 : S73 180 (ia_il 181 1) := sa_n (snd_iload_n dX0_count_180 rfl rfl) on_il
theorem s_73_181 : S73 181 (ia_k 182 5) := sa_n (snd_iconst dX0_count_181 rfl (okI_c rfl) rfl) on_k
theorem s_73_182 : S73 182 (ia_sub 183) := sa_n (snd_isub dX0_count_182 rfl) on_sub
theorem s_73_183 : S73 183 (ia_ldI 184 100) := sa_n (snd_iaload dX0_count_183 rfl) on_ldI
theorem s_73_184 : S73 184 (ia_retI) := sa_t (st_retI dX0_count_184 rfl) on_retI
theorem s_73_185 : S73 185 (ia_al 186 0) := sa_n (snd_aload_n dX0_count_185 rfl rfl) on_al
theorem s_73_186 : S73 186 (ia_gfR 189 1 1) := sa_n (snd_gfR ci_1 (k := 1) (lt_c rfl) dX0_count_186 (Or.inl q875) (Or.inl rfl) (fun _ _ _ _ => rfl) rfl rfl) on_gfR
theorem s_73_189 : S73 189 (ia_il 190 1) := sa_n (snd_iload_n dX0_count_189 rfl rfl) on_il
theorem s_73_190 : S73 190 (ia_k 191 4) := sa_n (snd_iconst dX0_count_190 rfl (okI_c rfl) rfl) on_k
theorem s_73_191 : S73 191 (ia_sub 192) := sa_n (snd_isub dX0_count_191 rfl) on_sub
theorem s_73_192 : S73 192 (ia_ldI 193 100) := sa_n (snd_iaload dX0_count_192 rfl) on_ldI
theorem s_73_193 : S73 193 (ia_retI) := sa_t (st_retI dX0_count_193 rfl) on_retI
theorem s_73_194 : S73 194 (ia_k 195 (-1)) := sa_n (snd_iconst dX0_count_194 rfl (okI_c rfl) rfl) on_k
theorem s_73_195 : S73 195 (ia_retI) := sa_t (st_retI dX0_count_195 rfl) on_retI
theorem sa_73_0 (pc : Nat) : S73 pc (cd_73_0 pc) := sa_c (sa_c (sa_c (sa_c (sa_c (sa_l s_73_0) (sa_l s_73_1)) (sa_c (sa_l s_73_2) (sa_c (sa_l s_73_3) (sa_l s_73_4)))) (sa_c (sa_c (sa_l s_73_5) (sa_l s_73_7)) (sa_c (sa_l s_73_9) (sa_c (sa_l s_73_11) (sa_l s_73_14))))) (sa_c (sa_c (sa_c (sa_l s_73_15) (sa_l s_73_16)) (sa_c (sa_l s_73_19) (sa_c (sa_l s_73_22) (sa_l s_73_24)))) (sa_c (sa_c (sa_l s_73_25) (sa_l s_73_26)) (sa_c (sa_l s_73_29) (sa_c (sa_l s_73_30) (sa_l s_73_33)))))) (sa_c (sa_c (sa_c (sa_c (sa_l s_73_34) (sa_l s_73_35)) (sa_c (sa_l s_73_36) (sa_c (sa_l s_73_39) (sa_l s_73_42)))) (sa_c (sa_c (sa_l s_73_43) (sa_l s_73_45)) (sa_c (sa_l s_73_47) (sa_c (sa_l s_73_49) (sa_l s_73_52))))) (sa_c (sa_c (sa_c (sa_l s_73_53) (sa_l s_73_54)) (sa_c (sa_l s_73_57) (sa_c (sa_l s_73_60) (sa_l s_73_62)))) (sa_c (sa_c (sa_l s_73_63) (sa_c (sa_l s_73_64) (sa_l s_73_67))) (sa_c (sa_l s_73_68) (sa_c (sa_l s_73_71) (sa_l s_73_72))))))
theorem sa_73_1 (pc : Nat) : S73 pc (cd_73_1 pc) := sa_c (sa_c (sa_c (sa_c (sa_c (sa_l s_73_73) (sa_l s_73_74)) (sa_c (sa_l s_73_77) (sa_c (sa_l s_73_80) (sa_l s_73_81)))) (sa_c (sa_c (sa_l s_73_140) (sa_l s_73_141)) (sa_c (sa_l s_73_144) (sa_c (sa_l s_73_147) (sa_l s_73_150))))) (sa_c (sa_c (sa_c (sa_l s_73_151) (sa_l s_73_152)) (sa_c (sa_l s_73_155) (sa_c (sa_l s_73_158) (sa_l s_73_159)))) (sa_c (sa_c (sa_l s_73_160) (sa_l s_73_163)) (sa_c (sa_l s_73_166) (sa_c (sa_l s_73_167) (sa_l s_73_168)))))) (sa_c (sa_c (sa_c (sa_c (sa_l s_73_169) (sa_l s_73_170)) (sa_c (sa_l s_73_171) (sa_c (sa_l s_73_172) (sa_l s_73_175)))) (sa_c (sa_c (sa_l s_73_176) (sa_l s_73_177)) (sa_c (sa_l s_73_180) (sa_c (sa_l s_73_181) (sa_l s_73_182))))) (sa_c (sa_c (sa_c (sa_l s_73_183) (sa_l s_73_184)) (sa_c (sa_l s_73_185) (sa_c (sa_l s_73_186) (sa_l s_73_189)))) (sa_c (sa_c (sa_l s_73_190) (sa_c (sa_l s_73_191) (sa_l s_73_192))) (sa_c (sa_l s_73_193) (sa_c (sa_l s_73_194) (sa_l s_73_195))))))
theorem sa_73 (pc : Nat) : S73 pc (cd_73 pc) := sa_c (sa_73_0 pc) (sa_73_1 pc)
abbrev S74 (pc : Nat) (x : XI) : Prop := SA "WeekFoot" cX0_status 1 "status" (some .int) pc x
theorem s_74_0 : S74 0 (ia_al 1 0) := sa_n (snd_aload_n dX0_status_0 rfl rfl) on_al
theorem s_74_1 : S74 1 (ia_gfI 4 1 0) := sa_n (snd_gfI ci_1 (k := 0) (lt_c rfl) dX0_status_1 (Or.inl q874) (Or.inl rfl) (fun _ _ _ _ => rfl) rfl rfl) on_gfI
theorem s_74_4 : S74 4 (ia_retI) := sa_t (st_retI dX0_status_4 rfl) on_retI
theorem sa_74 (pc : Nat) : S74 pc (cd_74 pc) := sa_c (sa_l s_74_0) (sa_c (sa_l s_74_1) (sa_l s_74_4))
