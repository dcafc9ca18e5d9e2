/-! the standing cells, by name (printed by gen/stat.py) -/
theorem zl_0 {h : Hp} (o : zOk h) : 0 < zx h := o.lt (by decide)
theorem zt_0 {h : Hp} (o : zOk h) : zt h 0 = 0 := o.tg (n := 0) (by decide)
theorem zn_0 {h : Hp} (o : zOk h) : zn h 0 = 0 := o.ln (t := 0) (by decide)
theorem zy_0 {h : Hp} (o : zOk h) : zTy h 0 0 := ⟨zl_0 o, by rw [zt_0 o]; decide⟩
theorem zl_1 {h : Hp} (o : zOk h) : 1 < zx h := o.lt (by decide)
theorem zt_1 {h : Hp} (o : zOk h) : zt h 1 = 105 := o.tg (n := 4) (by decide)
theorem zn_1 {h : Hp} (o : zOk h) : zn h 1 = 4 := o.ln (t := 105) (by decide)
theorem zy_1 {h : Hp} (o : zOk h) : zTy h 1 105 := ⟨zl_1 o, by rw [zt_1 o]; decide⟩
theorem zl_2 {h : Hp} (o : zOk h) : 2 < zx h := o.lt (by decide)
theorem zt_2 {h : Hp} (o : zOk h) : zt h 2 = 100 := o.tg (n := 4) (by decide)
theorem zn_2 {h : Hp} (o : zOk h) : zn h 2 = 4 := o.ln (t := 100) (by decide)
theorem zy_2 {h : Hp} (o : zOk h) : zTy h 2 100 := ⟨zl_2 o, by rw [zt_2 o]; decide⟩
theorem zl_3 {h : Hp} (o : zOk h) : 3 < zx h := o.lt (by decide)
theorem zt_3 {h : Hp} (o : zOk h) : zt h 3 = 100 := o.tg (n := 5) (by decide)
theorem zn_3 {h : Hp} (o : zOk h) : zn h 3 = 5 := o.ln (t := 100) (by decide)
theorem zy_3 {h : Hp} (o : zOk h) : zTy h 3 100 := ⟨zl_3 o, by rw [zt_3 o]; decide⟩
theorem zl_4 {h : Hp} (o : zOk h) : 4 < zx h := o.lt (by decide)
theorem zt_4 {h : Hp} (o : zOk h) : zt h 4 = 106 := o.tg (n := 40) (by decide)
theorem zn_4 {h : Hp} (o : zOk h) : zn h 4 = 40 := o.ln (t := 106) (by decide)
theorem zy_4 {h : Hp} (o : zOk h) : zTy h 4 106 := ⟨zl_4 o, by rw [zt_4 o]; decide⟩
theorem zl_5 {h : Hp} (o : zOk h) : 5 < zx h := o.lt (by decide)
theorem zt_5 {h : Hp} (o : zOk h) : zt h 5 = 101 := o.tg (n := 120) (by decide)
theorem zn_5 {h : Hp} (o : zOk h) : zn h 5 = 120 := o.ln (t := 101) (by decide)
theorem zy_5 {h : Hp} (o : zOk h) : zTy h 5 101 := ⟨zl_5 o, by rw [zt_5 o]; decide⟩
theorem zl_6 {h : Hp} (o : zOk h) : 6 < zx h := o.lt (by decide)
theorem zt_6 {h : Hp} (o : zOk h) : zt h 6 = 1 := o.tg (n := 0) (by decide)
theorem zn_6 {h : Hp} (o : zOk h) : zn h 6 = 0 := o.ln (t := 1) (by decide)
theorem zy_6 {h : Hp} (o : zOk h) : zTy h 6 1 := ⟨zl_6 o, by rw [zt_6 o]; decide⟩
theorem zl_7 {h : Hp} (o : zOk h) : 7 < zx h := o.lt (by decide)
theorem zt_7 {h : Hp} (o : zOk h) : zt h 7 = 100 := o.tg (n := 128) (by decide)
theorem zn_7 {h : Hp} (o : zOk h) : zn h 7 = 128 := o.ln (t := 100) (by decide)
theorem zy_7 {h : Hp} (o : zOk h) : zTy h 7 100 := ⟨zl_7 o, by rw [zt_7 o]; decide⟩
theorem zl_8 {h : Hp} (o : zOk h) : 8 < zx h := o.lt (by decide)
theorem zt_8 {h : Hp} (o : zOk h) : zt h 8 = 104 := o.tg (n := 2560) (by decide)
theorem zn_8 {h : Hp} (o : zOk h) : zn h 8 = 2560 := o.ln (t := 104) (by decide)
theorem zy_8 {h : Hp} (o : zOk h) : zTy h 8 104 := ⟨zl_8 o, by rw [zt_8 o]; decide⟩
theorem zl_9 {h : Hp} (o : zOk h) : 9 < zx h := o.lt (by decide)
theorem zt_9 {h : Hp} (o : zOk h) : zt h 9 = 101 := o.tg (n := 640) (by decide)
theorem zn_9 {h : Hp} (o : zOk h) : zn h 9 = 640 := o.ln (t := 101) (by decide)
theorem zy_9 {h : Hp} (o : zOk h) : zTy h 9 101 := ⟨zl_9 o, by rw [zt_9 o]; decide⟩
theorem zl_10 {h : Hp} (o : zOk h) : 10 < zx h := o.lt (by decide)
theorem zt_10 {h : Hp} (o : zOk h) : zt h 10 = 104 := o.tg (n := 10) (by decide)
theorem zn_10 {h : Hp} (o : zOk h) : zn h 10 = 10 := o.ln (t := 104) (by decide)
theorem zy_10 {h : Hp} (o : zOk h) : zTy h 10 104 := ⟨zl_10 o, by rw [zt_10 o]; decide⟩
theorem zl_11 {h : Hp} (o : zOk h) : 11 < zx h := o.lt (by decide)
theorem zt_11 {h : Hp} (o : zOk h) : zt h 11 = 104 := o.tg (n := 640) (by decide)
theorem zn_11 {h : Hp} (o : zOk h) : zn h 11 = 640 := o.ln (t := 104) (by decide)
theorem zy_11 {h : Hp} (o : zOk h) : zTy h 11 104 := ⟨zl_11 o, by rw [zt_11 o]; decide⟩
theorem zl_12 {h : Hp} (o : zOk h) : 12 < zx h := o.lt (by decide)
theorem zt_12 {h : Hp} (o : zOk h) : zt h 12 = 104 := o.tg (n := 16) (by decide)
theorem zn_12 {h : Hp} (o : zOk h) : zn h 12 = 16 := o.ln (t := 104) (by decide)
theorem zy_12 {h : Hp} (o : zOk h) : zTy h 12 104 := ⟨zl_12 o, by rw [zt_12 o]; decide⟩
theorem zl_13 {h : Hp} (o : zOk h) : 13 < zx h := o.lt (by decide)
theorem zt_13 {h : Hp} (o : zOk h) : zt h 13 = 100 := o.tg (n := 4) (by decide)
theorem zn_13 {h : Hp} (o : zOk h) : zn h 13 = 4 := o.ln (t := 100) (by decide)
theorem zy_13 {h : Hp} (o : zOk h) : zTy h 13 100 := ⟨zl_13 o, by rw [zt_13 o]; decide⟩
theorem zl_14 {h : Hp} (o : zOk h) : 14 < zx h := o.lt (by decide)
theorem zt_14 {h : Hp} (o : zOk h) : zt h 14 = 101 := o.tg (n := 24) (by decide)
theorem zn_14 {h : Hp} (o : zOk h) : zn h 14 = 24 := o.ln (t := 101) (by decide)
theorem zy_14 {h : Hp} (o : zOk h) : zTy h 14 101 := ⟨zl_14 o, by rw [zt_14 o]; decide⟩
theorem zl_15 {h : Hp} (o : zOk h) : 15 < zx h := o.lt (by decide)
theorem zt_15 {h : Hp} (o : zOk h) : zt h 15 = 107 := o.tg (n := 50) (by decide)
theorem zn_15 {h : Hp} (o : zOk h) : zn h 15 = 50 := o.ln (t := 107) (by decide)
theorem zy_15 {h : Hp} (o : zOk h) : zTy h 15 107 := ⟨zl_15 o, by rw [zt_15 o]; decide⟩
theorem zl_16 {h : Hp} (o : zOk h) : 16 < zx h := o.lt (by decide)
theorem zt_16 {h : Hp} (o : zOk h) : zt h 16 = 108 := o.tg (n := 6) (by decide)
theorem zn_16 {h : Hp} (o : zOk h) : zn h 16 = 6 := o.ln (t := 108) (by decide)
theorem zy_16 {h : Hp} (o : zOk h) : zTy h 16 108 := ⟨zl_16 o, by rw [zt_16 o]; decide⟩
theorem zl_17 {h : Hp} (o : zOk h) : 17 < zx h := o.lt (by decide)
theorem zt_17 {h : Hp} (o : zOk h) : zt h 17 = 2 := o.tg (n := 0) (by decide)
theorem zn_17 {h : Hp} (o : zOk h) : zn h 17 = 0 := o.ln (t := 2) (by decide)
theorem zy_17 {h : Hp} (o : zOk h) : zTy h 17 2 := ⟨zl_17 o, by rw [zt_17 o]; decide⟩
theorem zl_18 {h : Hp} (o : zOk h) : 18 < zx h := o.lt (by decide)
theorem zt_18 {h : Hp} (o : zOk h) : zt h 18 = 100 := o.tg (n := 12) (by decide)
theorem zn_18 {h : Hp} (o : zOk h) : zn h 18 = 12 := o.ln (t := 100) (by decide)
theorem zy_18 {h : Hp} (o : zOk h) : zTy h 18 100 := ⟨zl_18 o, by rw [zt_18 o]; decide⟩
theorem zl_19 {h : Hp} (o : zOk h) : 19 < zx h := o.lt (by decide)
theorem zt_19 {h : Hp} (o : zOk h) : zt h 19 = 100 := o.tg (n := 40) (by decide)
theorem zn_19 {h : Hp} (o : zOk h) : zn h 19 = 40 := o.ln (t := 100) (by decide)
theorem zy_19 {h : Hp} (o : zOk h) : zTy h 19 100 := ⟨zl_19 o, by rw [zt_19 o]; decide⟩
theorem zl_20 {h : Hp} (o : zOk h) : 20 < zx h := o.lt (by decide)
theorem zt_20 {h : Hp} (o : zOk h) : zt h 20 = 100 := o.tg (n := 40) (by decide)
theorem zn_20 {h : Hp} (o : zOk h) : zn h 20 = 40 := o.ln (t := 100) (by decide)
theorem zy_20 {h : Hp} (o : zOk h) : zTy h 20 100 := ⟨zl_20 o, by rw [zt_20 o]; decide⟩
theorem zl_21 {h : Hp} (o : zOk h) : 21 < zx h := o.lt (by decide)
theorem zt_21 {h : Hp} (o : zOk h) : zt h 21 = 100 := o.tg (n := 40) (by decide)
theorem zn_21 {h : Hp} (o : zOk h) : zn h 21 = 40 := o.ln (t := 100) (by decide)
theorem zy_21 {h : Hp} (o : zOk h) : zTy h 21 100 := ⟨zl_21 o, by rw [zt_21 o]; decide⟩
theorem zl_22 {h : Hp} (o : zOk h) : 22 < zx h := o.lt (by decide)
theorem zt_22 {h : Hp} (o : zOk h) : zt h 22 = 100 := o.tg (n := 4) (by decide)
theorem zn_22 {h : Hp} (o : zOk h) : zn h 22 = 4 := o.ln (t := 100) (by decide)
theorem zy_22 {h : Hp} (o : zOk h) : zTy h 22 100 := ⟨zl_22 o, by rw [zt_22 o]; decide⟩
theorem zl_23 {h : Hp} (o : zOk h) : 23 < zx h := o.lt (by decide)
theorem zt_23 {h : Hp} (o : zOk h) : zt h 23 = 100 := o.tg (n := 4) (by decide)
theorem zn_23 {h : Hp} (o : zOk h) : zn h 23 = 4 := o.ln (t := 100) (by decide)
theorem zy_23 {h : Hp} (o : zOk h) : zTy h 23 100 := ⟨zl_23 o, by rw [zt_23 o]; decide⟩
theorem zl_24 {h : Hp} (o : zOk h) : 24 < zx h := o.lt (by decide)
theorem zt_24 {h : Hp} (o : zOk h) : zt h 24 = 100 := o.tg (n := 5) (by decide)
theorem zn_24 {h : Hp} (o : zOk h) : zn h 24 = 5 := o.ln (t := 100) (by decide)
theorem zy_24 {h : Hp} (o : zOk h) : zTy h 24 100 := ⟨zl_24 o, by rw [zt_24 o]; decide⟩
theorem zl_25 {h : Hp} (o : zOk h) : 25 < zx h := o.lt (by decide)
theorem zt_25 {h : Hp} (o : zOk h) : zt h 25 = 100 := o.tg (n := 4) (by decide)
theorem zn_25 {h : Hp} (o : zOk h) : zn h 25 = 4 := o.ln (t := 100) (by decide)
theorem zy_25 {h : Hp} (o : zOk h) : zTy h 25 100 := ⟨zl_25 o, by rw [zt_25 o]; decide⟩
theorem zl_26 {h : Hp} (o : zOk h) : 26 < zx h := o.lt (by decide)
theorem zt_26 {h : Hp} (o : zOk h) : zt h 26 = 100 := o.tg (n := 120) (by decide)
theorem zn_26 {h : Hp} (o : zOk h) : zn h 26 = 120 := o.ln (t := 100) (by decide)
theorem zy_26 {h : Hp} (o : zOk h) : zTy h 26 100 := ⟨zl_26 o, by rw [zt_26 o]; decide⟩
theorem zl_27 {h : Hp} (o : zOk h) : 27 < zx h := o.lt (by decide)
theorem zt_27 {h : Hp} (o : zOk h) : zt h 27 = 100 := o.tg (n := 120) (by decide)
theorem zn_27 {h : Hp} (o : zOk h) : zn h 27 = 120 := o.ln (t := 100) (by decide)
theorem zy_27 {h : Hp} (o : zOk h) : zTy h 27 100 := ⟨zl_27 o, by rw [zt_27 o]; decide⟩
theorem zl_28 {h : Hp} (o : zOk h) : 28 < zx h := o.lt (by decide)
theorem zt_28 {h : Hp} (o : zOk h) : zt h 28 = 100 := o.tg (n := 5) (by decide)
theorem zn_28 {h : Hp} (o : zOk h) : zn h 28 = 5 := o.ln (t := 100) (by decide)
theorem zy_28 {h : Hp} (o : zOk h) : zTy h 28 100 := ⟨zl_28 o, by rw [zt_28 o]; decide⟩
theorem zl_29 {h : Hp} (o : zOk h) : 29 < zx h := o.lt (by decide)
theorem zt_29 {h : Hp} (o : zOk h) : zt h 29 = 104 := o.tg (n := 10) (by decide)
theorem zn_29 {h : Hp} (o : zOk h) : zn h 29 = 10 := o.ln (t := 104) (by decide)
theorem zy_29 {h : Hp} (o : zOk h) : zTy h 29 104 := ⟨zl_29 o, by rw [zt_29 o]; decide⟩
theorem zl_30 {h : Hp} (o : zOk h) : 30 < zx h := o.lt (by decide)
theorem zt_30 {h : Hp} (o : zOk h) : zt h 30 = 104 := o.tg (n := 2560) (by decide)
theorem zn_30 {h : Hp} (o : zOk h) : zn h 30 = 2560 := o.ln (t := 104) (by decide)
theorem zy_30 {h : Hp} (o : zOk h) : zTy h 30 104 := ⟨zl_30 o, by rw [zt_30 o]; decide⟩
theorem zl_31 {h : Hp} (o : zOk h) : 31 < zx h := o.lt (by decide)
theorem zt_31 {h : Hp} (o : zOk h) : zt h 31 = 100 := o.tg (n := 640) (by decide)
theorem zn_31 {h : Hp} (o : zOk h) : zn h 31 = 640 := o.ln (t := 100) (by decide)
theorem zy_31 {h : Hp} (o : zOk h) : zTy h 31 100 := ⟨zl_31 o, by rw [zt_31 o]; decide⟩
theorem zl_32 {h : Hp} (o : zOk h) : 32 < zx h := o.lt (by decide)
theorem zt_32 {h : Hp} (o : zOk h) : zt h 32 = 100 := o.tg (n := 640) (by decide)
theorem zn_32 {h : Hp} (o : zOk h) : zn h 32 = 640 := o.ln (t := 100) (by decide)
theorem zy_32 {h : Hp} (o : zOk h) : zTy h 32 100 := ⟨zl_32 o, by rw [zt_32 o]; decide⟩
theorem zl_33 {h : Hp} (o : zOk h) : 33 < zx h := o.lt (by decide)
theorem zt_33 {h : Hp} (o : zOk h) : zt h 33 = 104 := o.tg (n := 4) (by decide)
theorem zn_33 {h : Hp} (o : zOk h) : zn h 33 = 4 := o.ln (t := 104) (by decide)
theorem zy_33 {h : Hp} (o : zOk h) : zTy h 33 104 := ⟨zl_33 o, by rw [zt_33 o]; decide⟩
theorem zl_34 {h : Hp} (o : zOk h) : 34 < zx h := o.lt (by decide)
theorem zt_34 {h : Hp} (o : zOk h) : zt h 34 = 104 := o.tg (n := 640) (by decide)
theorem zn_34 {h : Hp} (o : zOk h) : zn h 34 = 640 := o.ln (t := 104) (by decide)
theorem zy_34 {h : Hp} (o : zOk h) : zTy h 34 104 := ⟨zl_34 o, by rw [zt_34 o]; decide⟩
theorem zl_35 {h : Hp} (o : zOk h) : 35 < zx h := o.lt (by decide)
theorem zt_35 {h : Hp} (o : zOk h) : zt h 35 = 100 := o.tg (n := 4) (by decide)
theorem zn_35 {h : Hp} (o : zOk h) : zn h 35 = 4 := o.ln (t := 100) (by decide)
theorem zy_35 {h : Hp} (o : zOk h) : zTy h 35 100 := ⟨zl_35 o, by rw [zt_35 o]; decide⟩
theorem zl_36 {h : Hp} (o : zOk h) : 36 < zx h := o.lt (by decide)
theorem zt_36 {h : Hp} (o : zOk h) : zt h 36 = 100 := o.tg (n := 50) (by decide)
theorem zn_36 {h : Hp} (o : zOk h) : zn h 36 = 50 := o.ln (t := 100) (by decide)
theorem zy_36 {h : Hp} (o : zOk h) : zTy h 36 100 := ⟨zl_36 o, by rw [zt_36 o]; decide⟩
theorem zl_37 {h : Hp} (o : zOk h) : 37 < zx h := o.lt (by decide)
theorem zt_37 {h : Hp} (o : zOk h) : zt h 37 = 100 := o.tg (n := 24) (by decide)
theorem zn_37 {h : Hp} (o : zOk h) : zn h 37 = 24 := o.ln (t := 100) (by decide)
theorem zy_37 {h : Hp} (o : zOk h) : zTy h 37 100 := ⟨zl_37 o, by rw [zt_37 o]; decide⟩
theorem zl_38 {h : Hp} (o : zOk h) : 38 < zx h := o.lt (by decide)
theorem zt_38 {h : Hp} (o : zOk h) : zt h 38 = 100 := o.tg (n := 6) (by decide)
theorem zn_38 {h : Hp} (o : zOk h) : zn h 38 = 6 := o.ln (t := 100) (by decide)
theorem zy_38 {h : Hp} (o : zOk h) : zTy h 38 100 := ⟨zl_38 o, by rw [zt_38 o]; decide⟩
theorem zl_39 {h : Hp} (o : zOk h) : 39 < zx h := o.lt (by decide)
theorem zt_39 {h : Hp} (o : zOk h) : zt h 39 = 100 := o.tg (n := 6) (by decide)
theorem zn_39 {h : Hp} (o : zOk h) : zn h 39 = 6 := o.ln (t := 100) (by decide)
theorem zy_39 {h : Hp} (o : zOk h) : zTy h 39 100 := ⟨zl_39 o, by rw [zt_39 o]; decide⟩
theorem zl_40 {h : Hp} (o : zOk h) : 40 < zx h := o.lt (by decide)
theorem zt_40 {h : Hp} (o : zOk h) : zt h 40 = 104 := o.tg (n := 360) (by decide)
theorem zn_40 {h : Hp} (o : zOk h) : zn h 40 = 360 := o.ln (t := 104) (by decide)
theorem zy_40 {h : Hp} (o : zOk h) : zTy h 40 104 := ⟨zl_40 o, by rw [zt_40 o]; decide⟩
theorem zl_41 {h : Hp} (o : zOk h) : 41 < zx h := o.lt (by decide)
theorem zt_41 {h : Hp} (o : zOk h) : zt h 41 = 104 := o.tg (n := 60) (by decide)
theorem zn_41 {h : Hp} (o : zOk h) : zn h 41 = 60 := o.ln (t := 104) (by decide)
theorem zy_41 {h : Hp} (o : zOk h) : zTy h 41 104 := ⟨zl_41 o, by rw [zt_41 o]; decide⟩
theorem zk_0_0 {h : Hp} (o : zOk h) : zr h 0 0 = some 1 := o.cn (by decide)
theorem zk_0_1 {h : Hp} (o : zOk h) : zr h 0 1 = some 2 := o.cn (by decide)
theorem zk_0_2 {h : Hp} (o : zOk h) : zr h 0 2 = some 3 := o.cn (by decide)
theorem zk_0_5 {h : Hp} (o : zOk h) : zr h 0 5 = some 4 := o.cn (by decide)
theorem zk_0_8 {h : Hp} (o : zOk h) : zr h 0 8 = some 5 := o.cn (by decide)
theorem zk_6_0 {h : Hp} (o : zOk h) : zr h 6 0 = some 7 := o.cn (by decide)
theorem zk_0_11 {h : Hp} (o : zOk h) : zr h 0 11 = some 6 := o.cn (by decide)
theorem zk_0_12 {h : Hp} (o : zOk h) : zr h 0 12 = some 8 := o.cn (by decide)
theorem zk_0_13 {h : Hp} (o : zOk h) : zr h 0 13 = some 9 := o.cn (by decide)
theorem zk_0_14 {h : Hp} (o : zOk h) : zr h 0 14 = some 10 := o.cn (by decide)
theorem zk_0_15 {h : Hp} (o : zOk h) : zr h 0 15 = some 11 := o.cn (by decide)
theorem zk_0_16 {h : Hp} (o : zOk h) : zr h 0 16 = some 12 := o.cn (by decide)
theorem zk_0_18 {h : Hp} (o : zOk h) : zr h 0 18 = some 13 := o.cn (by decide)
theorem zk_0_34 {h : Hp} (o : zOk h) : zr h 0 34 = some 14 := o.cn (by decide)
theorem zk_0_35 {h : Hp} (o : zOk h) : zr h 0 35 = some 15 := o.cn (by decide)
theorem zk_0_37 {h : Hp} (o : zOk h) : zr h 0 37 = some 16 := o.cn (by decide)
theorem zk_17_0 {h : Hp} (o : zOk h) : zr h 17 0 = some 18 := o.cn (by decide)
theorem zk_17_1 {h : Hp} (o : zOk h) : zr h 17 1 = some 19 := o.cn (by decide)
theorem zk_17_2 {h : Hp} (o : zOk h) : zr h 17 2 = some 20 := o.cn (by decide)
theorem zk_17_3 {h : Hp} (o : zOk h) : zr h 17 3 = some 21 := o.cn (by decide)
theorem zk_17_7 {h : Hp} (o : zOk h) : zr h 17 7 = some 22 := o.cn (by decide)
theorem zk_17_8 {h : Hp} (o : zOk h) : zr h 17 8 = some 23 := o.cn (by decide)
theorem zk_17_10 {h : Hp} (o : zOk h) : zr h 17 10 = some 24 := o.cn (by decide)
theorem zk_17_11 {h : Hp} (o : zOk h) : zr h 17 11 = some 25 := o.cn (by decide)
theorem zk_17_12 {h : Hp} (o : zOk h) : zr h 17 12 = some 26 := o.cn (by decide)
theorem zk_17_14 {h : Hp} (o : zOk h) : zr h 17 14 = some 27 := o.cn (by decide)
theorem zk_17_21 {h : Hp} (o : zOk h) : zr h 17 21 = some 28 := o.cn (by decide)
theorem zk_17_22 {h : Hp} (o : zOk h) : zr h 17 22 = some 29 := o.cn (by decide)
theorem zk_17_23 {h : Hp} (o : zOk h) : zr h 17 23 = some 30 := o.cn (by decide)
theorem zk_17_24 {h : Hp} (o : zOk h) : zr h 17 24 = some 31 := o.cn (by decide)
theorem zk_17_25 {h : Hp} (o : zOk h) : zr h 17 25 = some 32 := o.cn (by decide)
theorem zk_17_26 {h : Hp} (o : zOk h) : zr h 17 26 = some 33 := o.cn (by decide)
theorem zk_17_27 {h : Hp} (o : zOk h) : zr h 17 27 = some 34 := o.cn (by decide)
theorem zk_17_28 {h : Hp} (o : zOk h) : zr h 17 28 = some 35 := o.cn (by decide)
theorem zk_17_41 {h : Hp} (o : zOk h) : zr h 17 41 = some 36 := o.cn (by decide)
theorem zk_17_42 {h : Hp} (o : zOk h) : zr h 17 42 = some 37 := o.cn (by decide)
theorem zk_17_46 {h : Hp} (o : zOk h) : zr h 17 46 = some 38 := o.cn (by decide)
theorem zk_17_47 {h : Hp} (o : zOk h) : zr h 17 47 = some 39 := o.cn (by decide)
theorem zk_17_48 {h : Hp} (o : zOk h) : zr h 17 48 = some 40 := o.cn (by decide)
theorem zk_17_49 {h : Hp} (o : zOk h) : zr h 17 49 = some 41 := o.cn (by decide)
